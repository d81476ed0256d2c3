/-! LandFolio$Folio -/
set_option maxRecDepth 100000
def RX1 : String := "LandFolio$Folio"
def TX1 : u_T := fun k => match k with
  | 0 => ("LandFolio$Folio", "wide", "I", false)
  | 1 => ("LandFolio$Folio", "high", "I", false)
  | 2 => ("LandFolio$Folio", "price", "I", false)
  | 3 => ("LandFolio$Folio", "day", "I", false)
  | 4 => ("LandFolio$Folio", "owners", "Ljava/util/ArrayList;", true)
  | 5 => ("LandFolio$Folio", "parcels", "Ljava/util/ArrayList;", true)
  | 6 => ("LandFolio$Folio", "deeds", "Ljava/util/ArrayList;", true)
  | 7 => ("LandFolio$Folio", "burdens", "Ljava/util/ArrayList;", true)
  | _ => ("LandFolio$Folio", "log", "Ljava/util/ArrayList;", true)
def tyX1 : Nat → FieldType := fun k => match k with
  | 0 => .int
  | 1 => .int
  | 2 => .int
  | 3 => .int
  | 4 => .object "java/util/ArrayList"
  | 5 => .object "java/util/ArrayList"
  | 6 => .object "java/util/ArrayList"
  | 7 => .object "java/util/ArrayList"
  | _ => .object "java/util/ArrayList"
abbrev wsX10 : List Cond := u_ws RX1 TX1 9
theorem nmX1 : ∀ a, a < 9 → ∀ b, b < 9 → a ≠ b → (TX1 a).2.1 ≠ (TX1 b).2.1 := by decide +kernel
theorem tyX1_ok : ∀ k, k < 9 → parseFieldDescriptor (TX1 k).2.2.1 = some (tyX1 k) := by decide +kernel
abbrev cX1_init : ByteArray := prog_9_method_1_code
def yX1_init : MethodName := ⟨RX1, "<init>", "()V"⟩
def dkwX1_init_2 : List UInt8 := [181, 0, 24, 42, 187, 0, 9, 89, 183, 0, 11, 181, 0, 27, 177]
abbrev dktX1_init_2 : List UInt8 := dkwX1_init_2 ++ []
def dkwX1_init_1 : List UInt8 := [181, 0, 18, 42, 187, 0, 9, 89, 183, 0, 11, 181, 0, 21, 42, 187, 0, 9, 89, 183, 0, 11]
abbrev dktX1_init_1 : List UInt8 := dkwX1_init_1 ++ dktX1_init_2
def dkwX1_init_0 : List UInt8 := [42, 183, 0, 3, 42, 187, 0, 9, 89, 183, 0, 11, 181, 0, 12, 42, 187, 0, 9, 89, 183, 0, 11]
abbrev dktX1_init_0 : List UInt8 := dkwX1_init_0 ++ dktX1_init_1
theorem dksX1_init_0 : cX1_init.data.toList.drop 0 = dktX1_init_0 := by decide +kernel
theorem dksX1_init_1 : cX1_init.data.toList.drop 23 = dktX1_init_1 := dk_seg dksX1_init_0 23 rfl rfl
theorem dksX1_init_2 : cX1_init.data.toList.drop 45 = dktX1_init_2 := dk_seg dksX1_init_1 22 rfl rfl
theorem dX1_init_0 : decode cX1_init 0 = .ok (.aload_n 0, 1) := dk_42 (dk_at dksX1_init_0 0 rfl rfl)
theorem dX1_init_1 : decode cX1_init 1 = .ok (.invokespecial 3, 3) := dk_183 0 3 (dk_at dksX1_init_0 1 rfl rfl)
theorem dX1_init_4 : decode cX1_init 4 = .ok (.aload_n 0, 1) := dk_42 (dk_at dksX1_init_0 4 rfl rfl)
theorem dX1_init_5 : decode cX1_init 5 = .ok (.new 9, 3) := dk_187 0 9 (dk_at dksX1_init_0 5 rfl rfl)
theorem dX1_init_8 : decode cX1_init 8 = .ok (.dup, 1) := dk_89 (dk_at dksX1_init_0 8 rfl rfl)
theorem dX1_init_9 : decode cX1_init 9 = .ok (.invokespecial 11, 3) := dk_183 0 11 (dk_at dksX1_init_0 9 rfl rfl)
theorem dX1_init_12 : decode cX1_init 12 = .ok (.putfield 12, 3) := dk_181 0 12 (dk_at dksX1_init_0 12 rfl rfl)
theorem dX1_init_15 : decode cX1_init 15 = .ok (.aload_n 0, 1) := dk_42 (dk_at dksX1_init_0 15 rfl rfl)
theorem dX1_init_16 : decode cX1_init 16 = .ok (.new 9, 3) := dk_187 0 9 (dk_at dksX1_init_0 16 rfl rfl)
theorem dX1_init_19 : decode cX1_init 19 = .ok (.dup, 1) := dk_89 (dk_at dksX1_init_0 19 rfl rfl)
theorem dX1_init_20 : decode cX1_init 20 = .ok (.invokespecial 11, 3) := dk_183 0 11 (dk_at dksX1_init_0 20 rfl rfl)
theorem dX1_init_23 : decode cX1_init 23 = .ok (.putfield 18, 3) := dk_181 0 18 (dk_at dksX1_init_1 0 rfl rfl)
theorem dX1_init_26 : decode cX1_init 26 = .ok (.aload_n 0, 1) := dk_42 (dk_at dksX1_init_1 3 rfl rfl)
theorem dX1_init_27 : decode cX1_init 27 = .ok (.new 9, 3) := dk_187 0 9 (dk_at dksX1_init_1 4 rfl rfl)
theorem dX1_init_30 : decode cX1_init 30 = .ok (.dup, 1) := dk_89 (dk_at dksX1_init_1 7 rfl rfl)
theorem dX1_init_31 : decode cX1_init 31 = .ok (.invokespecial 11, 3) := dk_183 0 11 (dk_at dksX1_init_1 8 rfl rfl)
theorem dX1_init_34 : decode cX1_init 34 = .ok (.putfield 21, 3) := dk_181 0 21 (dk_at dksX1_init_1 11 rfl rfl)
theorem dX1_init_37 : decode cX1_init 37 = .ok (.aload_n 0, 1) := dk_42 (dk_at dksX1_init_1 14 rfl rfl)
theorem dX1_init_38 : decode cX1_init 38 = .ok (.new 9, 3) := dk_187 0 9 (dk_at dksX1_init_1 15 rfl rfl)
theorem dX1_init_41 : decode cX1_init 41 = .ok (.dup, 1) := dk_89 (dk_at dksX1_init_1 18 rfl rfl)
theorem dX1_init_42 : decode cX1_init 42 = .ok (.invokespecial 11, 3) := dk_183 0 11 (dk_at dksX1_init_1 19 rfl rfl)
theorem dX1_init_45 : decode cX1_init 45 = .ok (.putfield 24, 3) := dk_181 0 24 (dk_at dksX1_init_2 0 rfl rfl)
theorem dX1_init_48 : decode cX1_init 48 = .ok (.aload_n 0, 1) := dk_42 (dk_at dksX1_init_2 3 rfl rfl)
theorem dX1_init_49 : decode cX1_init 49 = .ok (.new 9, 3) := dk_187 0 9 (dk_at dksX1_init_2 4 rfl rfl)
theorem dX1_init_52 : decode cX1_init 52 = .ok (.dup, 1) := dk_89 (dk_at dksX1_init_2 7 rfl rfl)
theorem dX1_init_53 : decode cX1_init 53 = .ok (.invokespecial 11, 3) := dk_183 0 11 (dk_at dksX1_init_2 8 rfl rfl)
theorem dX1_init_56 : decode cX1_init 56 = .ok (.putfield 27, 3) := dk_181 0 27 (dk_at dksX1_init_2 11 rfl rfl)
theorem dX1_init_59 : decode cX1_init 59 = .ok (.return_, 1) := dk_177 (dk_at dksX1_init_2 14 rfl rfl)
abbrev cX1_begins : ByteArray := prog_9_method_6_code
def yX1_begins : MethodName := ⟨RX1, "begins", "(III)V"⟩
def dkwX1_begins_2 : List UInt8 := [183, 0, 87, 25, 4, 182, 0, 90, 87, 177]
abbrev dktX1_begins_2 : List UInt8 := dkwX1_begins_2 ++ []
def dkwX1_begins_1 : List UInt8 := [16, 12, 79, 42, 187, 0, 57, 89, 3, 3, 42, 180, 0, 31, 42, 180, 0, 35, 3, 16, 254, 16, 254]
abbrev dktX1_begins_1 : List UInt8 := dkwX1_begins_1 ++ dktX1_begins_2
def dkwX1_begins_0 : List UInt8 := [42, 27, 181, 0, 31, 42, 28, 181, 0, 35, 42, 29, 181, 0, 38, 16, 6, 188, 10, 58, 4, 25, 4, 3]
abbrev dktX1_begins_0 : List UInt8 := dkwX1_begins_0 ++ dktX1_begins_1
theorem dksX1_begins_0 : cX1_begins.data.toList.drop 0 = dktX1_begins_0 := by decide +kernel
theorem dksX1_begins_1 : cX1_begins.data.toList.drop 24 = dktX1_begins_1 := dk_seg dksX1_begins_0 24 rfl rfl
theorem dksX1_begins_2 : cX1_begins.data.toList.drop 47 = dktX1_begins_2 := dk_seg dksX1_begins_1 23 rfl rfl
theorem dX1_begins_0 : decode cX1_begins 0 = .ok (.aload_n 0, 1) := dk_42 (dk_at dksX1_begins_0 0 rfl rfl)
theorem dX1_begins_1 : decode cX1_begins 1 = .ok (.iload_n 1, 1) := dk_27 (dk_at dksX1_begins_0 1 rfl rfl)
theorem dX1_begins_2 : decode cX1_begins 2 = .ok (.putfield 31, 3) := dk_181 0 31 (dk_at dksX1_begins_0 2 rfl rfl)
theorem dX1_begins_5 : decode cX1_begins 5 = .ok (.aload_n 0, 1) := dk_42 (dk_at dksX1_begins_0 5 rfl rfl)
theorem dX1_begins_6 : decode cX1_begins 6 = .ok (.iload_n 2, 1) := dk_28 (dk_at dksX1_begins_0 6 rfl rfl)
theorem dX1_begins_7 : decode cX1_begins 7 = .ok (.putfield 35, 3) := dk_181 0 35 (dk_at dksX1_begins_0 7 rfl rfl)
theorem dX1_begins_10 : decode cX1_begins 10 = .ok (.aload_n 0, 1) := dk_42 (dk_at dksX1_begins_0 10 rfl rfl)
theorem dX1_begins_11 : decode cX1_begins 11 = .ok (.iload_n 3, 1) := dk_29 (dk_at dksX1_begins_0 11 rfl rfl)
theorem dX1_begins_12 : decode cX1_begins 12 = .ok (.putfield 38, 3) := dk_181 0 38 (dk_at dksX1_begins_0 12 rfl rfl)
theorem dX1_begins_15 : decode cX1_begins 15 = .ok (.bipush 6, 2) := dk_16 6 (dk_at dksX1_begins_0 15 rfl rfl)
theorem dX1_begins_17 : decode cX1_begins 17 = .ok (.newarray .int, 2) := dk_188_10 (dk_at dksX1_begins_0 17 rfl rfl)
theorem dX1_begins_19 : decode cX1_begins 19 = .ok (.astore 4, 2) := dk_58 4 (dk_at dksX1_begins_0 19 rfl rfl)
theorem dX1_begins_21 : decode cX1_begins 21 = .ok (.aload 4, 2) := dk_25 4 (dk_at dksX1_begins_0 21 rfl rfl)
theorem dX1_begins_23 : decode cX1_begins 23 = .ok (.iconst 0, 1) := dk_3 (dk_at dksX1_begins_0 23 rfl rfl)
theorem dX1_begins_24 : decode cX1_begins 24 = .ok (.bipush 12, 2) := dk_16 12 (dk_at dksX1_begins_1 0 rfl rfl)
theorem dX1_begins_26 : decode cX1_begins 26 = .ok (.iastore, 1) := dk_79 (dk_at dksX1_begins_1 2 rfl rfl)
theorem dX1_begins_27 : decode cX1_begins 27 = .ok (.aload_n 0, 1) := dk_42 (dk_at dksX1_begins_1 3 rfl rfl)
theorem dX1_begins_28 : decode cX1_begins 28 = .ok (.new 57, 3) := dk_187 0 57 (dk_at dksX1_begins_1 4 rfl rfl)
theorem dX1_begins_31 : decode cX1_begins 31 = .ok (.dup, 1) := dk_89 (dk_at dksX1_begins_1 7 rfl rfl)
theorem dX1_begins_32 : decode cX1_begins 32 = .ok (.iconst 0, 1) := dk_3 (dk_at dksX1_begins_1 8 rfl rfl)
theorem dX1_begins_33 : decode cX1_begins 33 = .ok (.iconst 0, 1) := dk_3 (dk_at dksX1_begins_1 9 rfl rfl)
theorem dX1_begins_34 : decode cX1_begins 34 = .ok (.aload_n 0, 1) := dk_42 (dk_at dksX1_begins_1 10 rfl rfl)
theorem dX1_begins_35 : decode cX1_begins 35 = .ok (.getfield 31, 3) := dk_180 0 31 (dk_at dksX1_begins_1 11 rfl rfl)
theorem dX1_begins_38 : decode cX1_begins 38 = .ok (.aload_n 0, 1) := dk_42 (dk_at dksX1_begins_1 14 rfl rfl)
theorem dX1_begins_39 : decode cX1_begins 39 = .ok (.getfield 35, 3) := dk_180 0 35 (dk_at dksX1_begins_1 15 rfl rfl)
theorem dX1_begins_42 : decode cX1_begins 42 = .ok (.iconst 0, 1) := dk_3 (dk_at dksX1_begins_1 18 rfl rfl)
theorem dX1_begins_43 : decode cX1_begins 43 = .ok (.bipush (-2), 2) := dk_16 254 (dk_at dksX1_begins_1 19 rfl rfl)
theorem dX1_begins_45 : decode cX1_begins 45 = .ok (.bipush (-2), 2) := dk_16 254 (dk_at dksX1_begins_1 21 rfl rfl)
theorem dX1_begins_47 : decode cX1_begins 47 = .ok (.invokespecial 87, 3) := dk_183 0 87 (dk_at dksX1_begins_2 0 rfl rfl)
theorem dX1_begins_50 : decode cX1_begins 50 = .ok (.aload 4, 2) := dk_25 4 (dk_at dksX1_begins_2 3 rfl rfl)
theorem dX1_begins_52 : decode cX1_begins 52 = .ok (.invokevirtual 90, 3) := dk_182 0 90 (dk_at dksX1_begins_2 5 rfl rfl)
theorem dX1_begins_55 : decode cX1_begins 55 = .ok (.pop, 1) := dk_87 (dk_at dksX1_begins_2 8 rfl rfl)
theorem dX1_begins_56 : decode cX1_begins 56 = .ok (.return_, 1) := dk_177 (dk_at dksX1_begins_2 9 rfl rfl)
abbrev cX1_comes : ByteArray := prog_9_method_7_code
def yX1_comes : MethodName := ⟨RX1, "comes", "(LLandFolio$Parcel;[I)I"⟩
def dkwX1_comes_1 : List UInt8 := [4, 100, 42, 180, 0, 41, 44, 183, 0, 96, 182, 0, 62, 87, 42, 180, 0, 18, 182, 0, 48, 4, 100, 172]
abbrev dktX1_comes_1 : List UInt8 := dkwX1_comes_1 ++ []
def dkwX1_comes_0 : List UInt8 := [42, 180, 0, 18, 43, 182, 0, 62, 87, 42, 180, 0, 21, 187, 0, 94, 89, 42, 180, 0, 18, 182, 0, 48]
abbrev dktX1_comes_0 : List UInt8 := dkwX1_comes_0 ++ dktX1_comes_1
theorem dksX1_comes_0 : cX1_comes.data.toList.drop 0 = dktX1_comes_0 := by decide +kernel
theorem dksX1_comes_1 : cX1_comes.data.toList.drop 24 = dktX1_comes_1 := dk_seg dksX1_comes_0 24 rfl rfl
theorem dX1_comes_0 : decode cX1_comes 0 = .ok (.aload_n 0, 1) := dk_42 (dk_at dksX1_comes_0 0 rfl rfl)
theorem dX1_comes_1 : decode cX1_comes 1 = .ok (.getfield 18, 3) := dk_180 0 18 (dk_at dksX1_comes_0 1 rfl rfl)
theorem dX1_comes_4 : decode cX1_comes 4 = .ok (.aload_n 1, 1) := dk_43 (dk_at dksX1_comes_0 4 rfl rfl)
theorem dX1_comes_5 : decode cX1_comes 5 = .ok (.invokevirtual 62, 3) := dk_182 0 62 (dk_at dksX1_comes_0 5 rfl rfl)
theorem dX1_comes_8 : decode cX1_comes 8 = .ok (.pop, 1) := dk_87 (dk_at dksX1_comes_0 8 rfl rfl)
theorem dX1_comes_9 : decode cX1_comes 9 = .ok (.aload_n 0, 1) := dk_42 (dk_at dksX1_comes_0 9 rfl rfl)
theorem dX1_comes_10 : decode cX1_comes 10 = .ok (.getfield 21, 3) := dk_180 0 21 (dk_at dksX1_comes_0 10 rfl rfl)
theorem dX1_comes_13 : decode cX1_comes 13 = .ok (.new 94, 3) := dk_187 0 94 (dk_at dksX1_comes_0 13 rfl rfl)
theorem dX1_comes_16 : decode cX1_comes 16 = .ok (.dup, 1) := dk_89 (dk_at dksX1_comes_0 16 rfl rfl)
theorem dX1_comes_17 : decode cX1_comes 17 = .ok (.aload_n 0, 1) := dk_42 (dk_at dksX1_comes_0 17 rfl rfl)
theorem dX1_comes_18 : decode cX1_comes 18 = .ok (.getfield 18, 3) := dk_180 0 18 (dk_at dksX1_comes_0 18 rfl rfl)
theorem dX1_comes_21 : decode cX1_comes 21 = .ok (.invokevirtual 48, 3) := dk_182 0 48 (dk_at dksX1_comes_0 21 rfl rfl)
theorem dX1_comes_24 : decode cX1_comes 24 = .ok (.iconst 1, 1) := dk_4 (dk_at dksX1_comes_1 0 rfl rfl)
theorem dX1_comes_25 : decode cX1_comes 25 = .ok (.isub, 1) := dk_100 (dk_at dksX1_comes_1 1 rfl rfl)
theorem dX1_comes_26 : decode cX1_comes 26 = .ok (.aload_n 0, 1) := dk_42 (dk_at dksX1_comes_1 2 rfl rfl)
theorem dX1_comes_27 : decode cX1_comes 27 = .ok (.getfield 41, 3) := dk_180 0 41 (dk_at dksX1_comes_1 3 rfl rfl)
theorem dX1_comes_30 : decode cX1_comes 30 = .ok (.aload_n 2, 1) := dk_44 (dk_at dksX1_comes_1 6 rfl rfl)
theorem dX1_comes_31 : decode cX1_comes 31 = .ok (.invokespecial 96, 3) := dk_183 0 96 (dk_at dksX1_comes_1 7 rfl rfl)
theorem dX1_comes_34 : decode cX1_comes 34 = .ok (.invokevirtual 62, 3) := dk_182 0 62 (dk_at dksX1_comes_1 10 rfl rfl)
theorem dX1_comes_37 : decode cX1_comes 37 = .ok (.pop, 1) := dk_87 (dk_at dksX1_comes_1 13 rfl rfl)
theorem dX1_comes_38 : decode cX1_comes 38 = .ok (.aload_n 0, 1) := dk_42 (dk_at dksX1_comes_1 14 rfl rfl)
theorem dX1_comes_39 : decode cX1_comes 39 = .ok (.getfield 18, 3) := dk_180 0 18 (dk_at dksX1_comes_1 15 rfl rfl)
theorem dX1_comes_42 : decode cX1_comes 42 = .ok (.invokevirtual 48, 3) := dk_182 0 48 (dk_at dksX1_comes_1 18 rfl rfl)
theorem dX1_comes_45 : decode cX1_comes 45 = .ok (.iconst 1, 1) := dk_4 (dk_at dksX1_comes_1 21 rfl rfl)
theorem dX1_comes_46 : decode cX1_comes 46 = .ok (.isub, 1) := dk_100 (dk_at dksX1_comes_1 22 rfl rfl)
theorem dX1_comes_47 : decode cX1_comes 47 = .ok (.ireturn, 1) := dk_172 (dk_at dksX1_comes_1 23 rfl rfl)
abbrev cX1_copied : ByteArray := prog_9_method_2_code
def yX1_copied : MethodName := ⟨RX1, "copied", "()LLandFolio$Folio;"⟩
def dkwX1_copied_6 : List UInt8 := [182, 0, 44, 87, 43, 176]
abbrev dktX1_copied_6 : List UInt8 := dkwX1_copied_6 ++ []
def dkwX1_copied_5 : List UInt8 := [182, 0, 66, 182, 0, 70, 182, 0, 62, 87, 132, 2, 1, 167, 255, 226, 43, 180, 0, 27, 42, 180, 0, 27]
abbrev dktX1_copied_5 : List UInt8 := dkwX1_copied_5 ++ dktX1_copied_6
def dkwX1_copied_4 : List UInt8 := [182, 0, 44, 87, 3, 61, 28, 42, 180, 0, 24, 182, 0, 48, 162, 0, 25, 43, 180, 0, 24, 42, 28]
abbrev dktX1_copied_4 : List UInt8 := dkwX1_copied_4 ++ dktX1_copied_5
def dkwX1_copied_3 : List UInt8 := [182, 0, 52, 182, 0, 56, 182, 0, 62, 87, 132, 2, 1, 167, 255, 226, 43, 180, 0, 21, 42, 180, 0, 21]
abbrev dktX1_copied_3 : List UInt8 := dkwX1_copied_3 ++ dktX1_copied_4
def dkwX1_copied_2 : List UInt8 := [182, 0, 44, 87, 3, 61, 28, 42, 180, 0, 18, 182, 0, 48, 162, 0, 25, 43, 180, 0, 18, 42, 28]
abbrev dktX1_copied_2 : List UInt8 := dkwX1_copied_2 ++ dktX1_copied_3
def dkwX1_copied_1 : List UInt8 := [43, 42, 180, 0, 38, 181, 0, 38, 43, 42, 180, 0, 41, 181, 0, 41, 43, 180, 0, 12, 42, 180, 0, 12]
abbrev dktX1_copied_1 : List UInt8 := dkwX1_copied_1 ++ dktX1_copied_2
def dkwX1_copied_0 : List UInt8 := [187, 0, 13, 89, 183, 0, 30, 76, 43, 42, 180, 0, 31, 181, 0, 31, 43, 42, 180, 0, 35, 181, 0, 35]
abbrev dktX1_copied_0 : List UInt8 := dkwX1_copied_0 ++ dktX1_copied_1
theorem dksX1_copied_0 : cX1_copied.data.toList.drop 0 = dktX1_copied_0 := by decide +kernel
theorem dksX1_copied_1 : cX1_copied.data.toList.drop 24 = dktX1_copied_1 := dk_seg dksX1_copied_0 24 rfl rfl
theorem dksX1_copied_2 : cX1_copied.data.toList.drop 48 = dktX1_copied_2 := dk_seg dksX1_copied_1 24 rfl rfl
theorem dksX1_copied_3 : cX1_copied.data.toList.drop 71 = dktX1_copied_3 := dk_seg dksX1_copied_2 23 rfl rfl
theorem dksX1_copied_4 : cX1_copied.data.toList.drop 95 = dktX1_copied_4 := dk_seg dksX1_copied_3 24 rfl rfl
theorem dksX1_copied_5 : cX1_copied.data.toList.drop 118 = dktX1_copied_5 := dk_seg dksX1_copied_4 23 rfl rfl
theorem dksX1_copied_6 : cX1_copied.data.toList.drop 142 = dktX1_copied_6 := dk_seg dksX1_copied_5 24 rfl rfl
theorem dX1_copied_0 : decode cX1_copied 0 = .ok (.new 13, 3) := dk_187 0 13 (dk_at dksX1_copied_0 0 rfl rfl)
theorem dX1_copied_3 : decode cX1_copied 3 = .ok (.dup, 1) := dk_89 (dk_at dksX1_copied_0 3 rfl rfl)
theorem dX1_copied_4 : decode cX1_copied 4 = .ok (.invokespecial 30, 3) := dk_183 0 30 (dk_at dksX1_copied_0 4 rfl rfl)
theorem dX1_copied_7 : decode cX1_copied 7 = .ok (.astore_n 1, 1) := dk_76 (dk_at dksX1_copied_0 7 rfl rfl)
theorem dX1_copied_8 : decode cX1_copied 8 = .ok (.aload_n 1, 1) := dk_43 (dk_at dksX1_copied_0 8 rfl rfl)
theorem dX1_copied_9 : decode cX1_copied 9 = .ok (.aload_n 0, 1) := dk_42 (dk_at dksX1_copied_0 9 rfl rfl)
theorem dX1_copied_10 : decode cX1_copied 10 = .ok (.getfield 31, 3) := dk_180 0 31 (dk_at dksX1_copied_0 10 rfl rfl)
theorem dX1_copied_13 : decode cX1_copied 13 = .ok (.putfield 31, 3) := dk_181 0 31 (dk_at dksX1_copied_0 13 rfl rfl)
theorem dX1_copied_16 : decode cX1_copied 16 = .ok (.aload_n 1, 1) := dk_43 (dk_at dksX1_copied_0 16 rfl rfl)
theorem dX1_copied_17 : decode cX1_copied 17 = .ok (.aload_n 0, 1) := dk_42 (dk_at dksX1_copied_0 17 rfl rfl)
theorem dX1_copied_18 : decode cX1_copied 18 = .ok (.getfield 35, 3) := dk_180 0 35 (dk_at dksX1_copied_0 18 rfl rfl)
theorem dX1_copied_21 : decode cX1_copied 21 = .ok (.putfield 35, 3) := dk_181 0 35 (dk_at dksX1_copied_0 21 rfl rfl)
theorem dX1_copied_24 : decode cX1_copied 24 = .ok (.aload_n 1, 1) := dk_43 (dk_at dksX1_copied_1 0 rfl rfl)
theorem dX1_copied_25 : decode cX1_copied 25 = .ok (.aload_n 0, 1) := dk_42 (dk_at dksX1_copied_1 1 rfl rfl)
theorem dX1_copied_26 : decode cX1_copied 26 = .ok (.getfield 38, 3) := dk_180 0 38 (dk_at dksX1_copied_1 2 rfl rfl)
theorem dX1_copied_29 : decode cX1_copied 29 = .ok (.putfield 38, 3) := dk_181 0 38 (dk_at dksX1_copied_1 5 rfl rfl)
theorem dX1_copied_32 : decode cX1_copied 32 = .ok (.aload_n 1, 1) := dk_43 (dk_at dksX1_copied_1 8 rfl rfl)
theorem dX1_copied_33 : decode cX1_copied 33 = .ok (.aload_n 0, 1) := dk_42 (dk_at dksX1_copied_1 9 rfl rfl)
theorem dX1_copied_34 : decode cX1_copied 34 = .ok (.getfield 41, 3) := dk_180 0 41 (dk_at dksX1_copied_1 10 rfl rfl)
theorem dX1_copied_37 : decode cX1_copied 37 = .ok (.putfield 41, 3) := dk_181 0 41 (dk_at dksX1_copied_1 13 rfl rfl)
theorem dX1_copied_40 : decode cX1_copied 40 = .ok (.aload_n 1, 1) := dk_43 (dk_at dksX1_copied_1 16 rfl rfl)
theorem dX1_copied_41 : decode cX1_copied 41 = .ok (.getfield 12, 3) := dk_180 0 12 (dk_at dksX1_copied_1 17 rfl rfl)
theorem dX1_copied_44 : decode cX1_copied 44 = .ok (.aload_n 0, 1) := dk_42 (dk_at dksX1_copied_1 20 rfl rfl)
theorem dX1_copied_45 : decode cX1_copied 45 = .ok (.getfield 12, 3) := dk_180 0 12 (dk_at dksX1_copied_1 21 rfl rfl)
theorem dX1_copied_48 : decode cX1_copied 48 = .ok (.invokevirtual 44, 3) := dk_182 0 44 (dk_at dksX1_copied_2 0 rfl rfl)
theorem dX1_copied_51 : decode cX1_copied 51 = .ok (.pop, 1) := dk_87 (dk_at dksX1_copied_2 3 rfl rfl)
theorem dX1_copied_52 : decode cX1_copied 52 = .ok (.iconst 0, 1) := dk_3 (dk_at dksX1_copied_2 4 rfl rfl)
theorem dX1_copied_53 : decode cX1_copied 53 = .ok (.istore_n 2, 1) := dk_61 (dk_at dksX1_copied_2 5 rfl rfl)
theorem dX1_copied_54 : decode cX1_copied 54 = .ok (.iload_n 2, 1) := dk_28 (dk_at dksX1_copied_2 6 rfl rfl)
theorem dX1_copied_55 : decode cX1_copied 55 = .ok (.aload_n 0, 1) := dk_42 (dk_at dksX1_copied_2 7 rfl rfl)
theorem dX1_copied_56 : decode cX1_copied 56 = .ok (.getfield 18, 3) := dk_180 0 18 (dk_at dksX1_copied_2 8 rfl rfl)
theorem dX1_copied_59 : decode cX1_copied 59 = .ok (.invokevirtual 48, 3) := dk_182 0 48 (dk_at dksX1_copied_2 11 rfl rfl)
theorem dX1_copied_62 : decode cX1_copied 62 = .ok (.if_icmp .ge 25, 3) := dk_162 0 25 (dk_at dksX1_copied_2 14 rfl rfl)
theorem dX1_copied_65 : decode cX1_copied 65 = .ok (.aload_n 1, 1) := dk_43 (dk_at dksX1_copied_2 17 rfl rfl)
theorem dX1_copied_66 : decode cX1_copied 66 = .ok (.getfield 18, 3) := dk_180 0 18 (dk_at dksX1_copied_2 18 rfl rfl)
theorem dX1_copied_69 : decode cX1_copied 69 = .ok (.aload_n 0, 1) := dk_42 (dk_at dksX1_copied_2 21 rfl rfl)
theorem dX1_copied_70 : decode cX1_copied 70 = .ok (.iload_n 2, 1) := dk_28 (dk_at dksX1_copied_2 22 rfl rfl)
theorem dX1_copied_71 : decode cX1_copied 71 = .ok (.invokevirtual 52, 3) := dk_182 0 52 (dk_at dksX1_copied_3 0 rfl rfl)
theorem dX1_copied_74 : decode cX1_copied 74 = .ok (.invokevirtual 56, 3) := dk_182 0 56 (dk_at dksX1_copied_3 3 rfl rfl)
theorem dX1_copied_77 : decode cX1_copied 77 = .ok (.invokevirtual 62, 3) := dk_182 0 62 (dk_at dksX1_copied_3 6 rfl rfl)
theorem dX1_copied_80 : decode cX1_copied 80 = .ok (.pop, 1) := dk_87 (dk_at dksX1_copied_3 9 rfl rfl)
theorem dX1_copied_81 : decode cX1_copied 81 = .ok (.iinc 2 1, 3) := dk_132 2 1 (dk_at dksX1_copied_3 10 rfl rfl)
theorem dX1_copied_84 : decode cX1_copied 84 = .ok (.goto (-30), 3) := dk_167 255 226 (dk_at dksX1_copied_3 13 rfl rfl)
theorem dX1_copied_87 : decode cX1_copied 87 = .ok (.aload_n 1, 1) := dk_43 (dk_at dksX1_copied_3 16 rfl rfl)
theorem dX1_copied_88 : decode cX1_copied 88 = .ok (.getfield 21, 3) := dk_180 0 21 (dk_at dksX1_copied_3 17 rfl rfl)
theorem dX1_copied_91 : decode cX1_copied 91 = .ok (.aload_n 0, 1) := dk_42 (dk_at dksX1_copied_3 20 rfl rfl)
theorem dX1_copied_92 : decode cX1_copied 92 = .ok (.getfield 21, 3) := dk_180 0 21 (dk_at dksX1_copied_3 21 rfl rfl)
theorem dX1_copied_95 : decode cX1_copied 95 = .ok (.invokevirtual 44, 3) := dk_182 0 44 (dk_at dksX1_copied_4 0 rfl rfl)
theorem dX1_copied_98 : decode cX1_copied 98 = .ok (.pop, 1) := dk_87 (dk_at dksX1_copied_4 3 rfl rfl)
theorem dX1_copied_99 : decode cX1_copied 99 = .ok (.iconst 0, 1) := dk_3 (dk_at dksX1_copied_4 4 rfl rfl)
theorem dX1_copied_100 : decode cX1_copied 100 = .ok (.istore_n 2, 1) := dk_61 (dk_at dksX1_copied_4 5 rfl rfl)
theorem dX1_copied_101 : decode cX1_copied 101 = .ok (.iload_n 2, 1) := dk_28 (dk_at dksX1_copied_4 6 rfl rfl)
theorem dX1_copied_102 : decode cX1_copied 102 = .ok (.aload_n 0, 1) := dk_42 (dk_at dksX1_copied_4 7 rfl rfl)
theorem dX1_copied_103 : decode cX1_copied 103 = .ok (.getfield 24, 3) := dk_180 0 24 (dk_at dksX1_copied_4 8 rfl rfl)
theorem dX1_copied_106 : decode cX1_copied 106 = .ok (.invokevirtual 48, 3) := dk_182 0 48 (dk_at dksX1_copied_4 11 rfl rfl)
theorem dX1_copied_109 : decode cX1_copied 109 = .ok (.if_icmp .ge 25, 3) := dk_162 0 25 (dk_at dksX1_copied_4 14 rfl rfl)
theorem dX1_copied_112 : decode cX1_copied 112 = .ok (.aload_n 1, 1) := dk_43 (dk_at dksX1_copied_4 17 rfl rfl)
theorem dX1_copied_113 : decode cX1_copied 113 = .ok (.getfield 24, 3) := dk_180 0 24 (dk_at dksX1_copied_4 18 rfl rfl)
theorem dX1_copied_116 : decode cX1_copied 116 = .ok (.aload_n 0, 1) := dk_42 (dk_at dksX1_copied_4 21 rfl rfl)
theorem dX1_copied_117 : decode cX1_copied 117 = .ok (.iload_n 2, 1) := dk_28 (dk_at dksX1_copied_4 22 rfl rfl)
theorem dX1_copied_118 : decode cX1_copied 118 = .ok (.invokevirtual 66, 3) := dk_182 0 66 (dk_at dksX1_copied_5 0 rfl rfl)
theorem dX1_copied_121 : decode cX1_copied 121 = .ok (.invokevirtual 70, 3) := dk_182 0 70 (dk_at dksX1_copied_5 3 rfl rfl)
theorem dX1_copied_124 : decode cX1_copied 124 = .ok (.invokevirtual 62, 3) := dk_182 0 62 (dk_at dksX1_copied_5 6 rfl rfl)
theorem dX1_copied_127 : decode cX1_copied 127 = .ok (.pop, 1) := dk_87 (dk_at dksX1_copied_5 9 rfl rfl)
theorem dX1_copied_128 : decode cX1_copied 128 = .ok (.iinc 2 1, 3) := dk_132 2 1 (dk_at dksX1_copied_5 10 rfl rfl)
theorem dX1_copied_131 : decode cX1_copied 131 = .ok (.goto (-30), 3) := dk_167 255 226 (dk_at dksX1_copied_5 13 rfl rfl)
theorem dX1_copied_134 : decode cX1_copied 134 = .ok (.aload_n 1, 1) := dk_43 (dk_at dksX1_copied_5 16 rfl rfl)
theorem dX1_copied_135 : decode cX1_copied 135 = .ok (.getfield 27, 3) := dk_180 0 27 (dk_at dksX1_copied_5 17 rfl rfl)
theorem dX1_copied_138 : decode cX1_copied 138 = .ok (.aload_n 0, 1) := dk_42 (dk_at dksX1_copied_5 20 rfl rfl)
theorem dX1_copied_139 : decode cX1_copied 139 = .ok (.getfield 27, 3) := dk_180 0 27 (dk_at dksX1_copied_5 21 rfl rfl)
theorem dX1_copied_142 : decode cX1_copied 142 = .ok (.invokevirtual 44, 3) := dk_182 0 44 (dk_at dksX1_copied_6 0 rfl rfl)
theorem dX1_copied_145 : decode cX1_copied 145 = .ok (.pop, 1) := dk_87 (dk_at dksX1_copied_6 3 rfl rfl)
theorem dX1_copied_146 : decode cX1_copied 146 = .ok (.aload_n 1, 1) := dk_43 (dk_at dksX1_copied_6 4 rfl rfl)
theorem dX1_copied_147 : decode cX1_copied 147 = .ok (.areturn, 1) := dk_176 (dk_at dksX1_copied_6 5 rfl rfl)
abbrev cX1_parcel : ByteArray := prog_9_method_4_code
def yX1_parcel : MethodName := ⟨RX1, "parcel", "(I)LLandFolio$Parcel;"⟩
def dkwX1_parcel_0 : List UInt8 := [42, 180, 0, 18, 27, 182, 0, 84, 192, 0, 57, 176]
abbrev dktX1_parcel_0 : List UInt8 := dkwX1_parcel_0 ++ []
theorem dksX1_parcel_0 : cX1_parcel.data.toList.drop 0 = dktX1_parcel_0 := by decide +kernel
theorem dX1_parcel_0 : decode cX1_parcel 0 = .ok (.aload_n 0, 1) := dk_42 (dk_at dksX1_parcel_0 0 rfl rfl)
theorem dX1_parcel_1 : decode cX1_parcel 1 = .ok (.getfield 18, 3) := dk_180 0 18 (dk_at dksX1_parcel_0 1 rfl rfl)
theorem dX1_parcel_4 : decode cX1_parcel 4 = .ok (.iload_n 1, 1) := dk_27 (dk_at dksX1_parcel_0 4 rfl rfl)
theorem dX1_parcel_5 : decode cX1_parcel 5 = .ok (.invokevirtual 84, 3) := dk_182 0 84 (dk_at dksX1_parcel_0 5 rfl rfl)
theorem dX1_parcel_8 : decode cX1_parcel 8 = .ok (.checkcast 57, 3) := dk_192 0 57 (dk_at dksX1_parcel_0 8 rfl rfl)
theorem dX1_parcel_11 : decode cX1_parcel 11 = .ok (.areturn, 1) := dk_176 (dk_at dksX1_parcel_0 11 rfl rfl)
abbrev cX1_burden : ByteArray := prog_9_method_5_code
def yX1_burden : MethodName := ⟨RX1, "burden", "(I)LLandFolio$Burden;"⟩
def dkwX1_burden_0 : List UInt8 := [42, 180, 0, 24, 27, 182, 0, 84, 192, 0, 71, 176]
abbrev dktX1_burden_0 : List UInt8 := dkwX1_burden_0 ++ []
theorem dksX1_burden_0 : cX1_burden.data.toList.drop 0 = dktX1_burden_0 := by decide +kernel
theorem dX1_burden_0 : decode cX1_burden 0 = .ok (.aload_n 0, 1) := dk_42 (dk_at dksX1_burden_0 0 rfl rfl)
theorem dX1_burden_1 : decode cX1_burden 1 = .ok (.getfield 24, 3) := dk_180 0 24 (dk_at dksX1_burden_0 1 rfl rfl)
theorem dX1_burden_4 : decode cX1_burden 4 = .ok (.iload_n 1, 1) := dk_27 (dk_at dksX1_burden_0 4 rfl rfl)
theorem dX1_burden_5 : decode cX1_burden 5 = .ok (.invokevirtual 84, 3) := dk_182 0 84 (dk_at dksX1_burden_0 5 rfl rfl)
theorem dX1_burden_8 : decode cX1_burden 8 = .ok (.checkcast 71, 3) := dk_192 0 71 (dk_at dksX1_burden_0 8 rfl rfl)
theorem dX1_burden_11 : decode cX1_burden 11 = .ok (.areturn, 1) := dk_176 (dk_at dksX1_burden_0 11 rfl rfl)
abbrev cX1_canSplit : ByteArray := prog_9_method_25_code
def yX1_canSplit : MethodName := ⟨RX1, "canSplit", "()Z"⟩
def dkwX1_canSplit_1 : List UInt8 := [16, 60, 163, 0, 7, 4, 167, 0, 4, 3, 172]
abbrev dktX1_canSplit_1 : List UInt8 := dkwX1_canSplit_1 ++ []
def dkwX1_canSplit_0 : List UInt8 := [42, 180, 0, 18, 182, 0, 48, 5, 96, 16, 40, 163, 0, 21, 42, 180, 0, 21, 182, 0, 48, 5, 96]
abbrev dktX1_canSplit_0 : List UInt8 := dkwX1_canSplit_0 ++ dktX1_canSplit_1
theorem dksX1_canSplit_0 : cX1_canSplit.data.toList.drop 0 = dktX1_canSplit_0 := by decide +kernel
theorem dksX1_canSplit_1 : cX1_canSplit.data.toList.drop 23 = dktX1_canSplit_1 := dk_seg dksX1_canSplit_0 23 rfl rfl
theorem dX1_canSplit_0 : decode cX1_canSplit 0 = .ok (.aload_n 0, 1) := dk_42 (dk_at dksX1_canSplit_0 0 rfl rfl)
theorem dX1_canSplit_1 : decode cX1_canSplit 1 = .ok (.getfield 18, 3) := dk_180 0 18 (dk_at dksX1_canSplit_0 1 rfl rfl)
theorem dX1_canSplit_4 : decode cX1_canSplit 4 = .ok (.invokevirtual 48, 3) := dk_182 0 48 (dk_at dksX1_canSplit_0 4 rfl rfl)
theorem dX1_canSplit_7 : decode cX1_canSplit 7 = .ok (.iconst 2, 1) := dk_5 (dk_at dksX1_canSplit_0 7 rfl rfl)
theorem dX1_canSplit_8 : decode cX1_canSplit 8 = .ok (.iadd, 1) := dk_96 (dk_at dksX1_canSplit_0 8 rfl rfl)
theorem dX1_canSplit_9 : decode cX1_canSplit 9 = .ok (.bipush 40, 2) := dk_16 40 (dk_at dksX1_canSplit_0 9 rfl rfl)
theorem dX1_canSplit_11 : decode cX1_canSplit 11 = .ok (.if_icmp .gt 21, 3) := dk_163 0 21 (dk_at dksX1_canSplit_0 11 rfl rfl)
theorem dX1_canSplit_14 : decode cX1_canSplit 14 = .ok (.aload_n 0, 1) := dk_42 (dk_at dksX1_canSplit_0 14 rfl rfl)
theorem dX1_canSplit_15 : decode cX1_canSplit 15 = .ok (.getfield 21, 3) := dk_180 0 21 (dk_at dksX1_canSplit_0 15 rfl rfl)
theorem dX1_canSplit_18 : decode cX1_canSplit 18 = .ok (.invokevirtual 48, 3) := dk_182 0 48 (dk_at dksX1_canSplit_0 18 rfl rfl)
theorem dX1_canSplit_21 : decode cX1_canSplit 21 = .ok (.iconst 2, 1) := dk_5 (dk_at dksX1_canSplit_0 21 rfl rfl)
theorem dX1_canSplit_22 : decode cX1_canSplit 22 = .ok (.iadd, 1) := dk_96 (dk_at dksX1_canSplit_0 22 rfl rfl)
theorem dX1_canSplit_23 : decode cX1_canSplit 23 = .ok (.bipush 60, 2) := dk_16 60 (dk_at dksX1_canSplit_1 0 rfl rfl)
theorem dX1_canSplit_25 : decode cX1_canSplit 25 = .ok (.if_icmp .gt 7, 3) := dk_163 0 7 (dk_at dksX1_canSplit_1 2 rfl rfl)
theorem dX1_canSplit_28 : decode cX1_canSplit 28 = .ok (.iconst 1, 1) := dk_4 (dk_at dksX1_canSplit_1 5 rfl rfl)
theorem dX1_canSplit_29 : decode cX1_canSplit 29 = .ok (.goto 4, 3) := dk_167 0 4 (dk_at dksX1_canSplit_1 6 rfl rfl)
theorem dX1_canSplit_32 : decode cX1_canSplit 32 = .ok (.iconst 0, 1) := dk_3 (dk_at dksX1_canSplit_1 9 rfl rfl)
theorem dX1_canSplit_33 : decode cX1_canSplit 33 = .ok (.ireturn, 1) := dk_172 (dk_at dksX1_canSplit_1 10 rfl rfl)
abbrev cX1_splits : ByteArray := prog_9_method_22_code
def yX1_splits : MethodName := ⟨RX1, "splits", "(III)I"⟩
def dkwX1_splits_10 : List UInt8 := [182, 0, 212, 21, 8, 172]
abbrev dktX1_splits_10 : List UInt8 := dkwX1_splits_10 ++ []
def dkwX1_splits_9 : List UInt8 := [192, 0, 204, 182, 0, 90, 54, 13, 42, 27, 21, 8, 182, 0, 208, 42, 27, 21, 13, 182, 0, 208, 42, 27]
abbrev dktX1_splits_9 : List UInt8 := dkwX1_splits_9 ++ dktX1_splits_10
def dkwX1_splits_8 : List UInt8 := [89, 21, 9, 21, 10, 21, 11, 21, 12, 42, 180, 0, 41, 27, 16, 254, 183, 0, 87, 25, 5, 182, 0, 203]
abbrev dktX1_splits_8 : List UInt8 := dkwX1_splits_8 ++ dktX1_splits_9
def dkwX1_splits_7 : List UInt8 := [160, 0, 13, 25, 4, 180, 0, 200, 29, 100, 167, 0, 8, 25, 4, 180, 0, 200, 54, 12, 42, 187, 0, 57]
abbrev dktX1_splits_7 : List UInt8 := dkwX1_splits_7 ++ dktX1_splits_8
def dkwX1_splits_6 : List UInt8 := [160, 0, 11, 25, 4, 180, 0, 199, 167, 0, 10, 25, 4, 180, 0, 199, 29, 100, 54, 11, 28, 4]
abbrev dktX1_splits_6 : List UInt8 := dkwX1_splits_6 ++ dktX1_splits_7
def dkwX1_splits_5 : List UInt8 := [160, 0, 13, 25, 4, 180, 0, 202, 29, 96, 167, 0, 8, 25, 4, 180, 0, 202, 54, 10, 28, 4]
abbrev dktX1_splits_5 : List UInt8 := dkwX1_splits_5 ++ dktX1_splits_6
def dkwX1_splits_4 : List UInt8 := [160, 0, 11, 25, 4, 180, 0, 201, 167, 0, 10, 25, 4, 180, 0, 201, 29, 96, 54, 9, 28, 4]
abbrev dktX1_splits_4 : List UInt8 := dkwX1_splits_4 ++ dktX1_splits_5
def dkwX1_splits_3 : List UInt8 := [180, 0, 41, 27, 16, 254, 183, 0, 87, 25, 5, 182, 0, 203, 192, 0, 204, 182, 0, 90, 54, 8, 28, 4]
abbrev dktX1_splits_3 : List UInt8 := dkwX1_splits_3 ++ dktX1_splits_4
def dkwX1_splits_2 : List UInt8 := [54, 7, 42, 187, 0, 57, 89, 25, 4, 180, 0, 201, 25, 4, 180, 0, 202, 21, 6, 21, 7, 42]
abbrev dktX1_splits_2 : List UInt8 := dkwX1_splits_2 ++ dktX1_splits_3
def dkwX1_splits_1 : List UInt8 := [180, 0, 199, 167, 0, 4, 29, 54, 6, 28, 4, 160, 0, 7, 29, 167, 0, 8, 25, 4, 180, 0, 200]
abbrev dktX1_splits_1 : List UInt8 := dkwX1_splits_1 ++ dktX1_splits_2
def dkwX1_splits_0 : List UInt8 := [42, 27, 182, 0, 52, 58, 4, 42, 27, 182, 0, 106, 180, 0, 195, 58, 5, 28, 4, 160, 0, 11, 25, 4]
abbrev dktX1_splits_0 : List UInt8 := dkwX1_splits_0 ++ dktX1_splits_1
theorem dksX1_splits_0 : cX1_splits.data.toList.drop 0 = dktX1_splits_0 := by decide +kernel
theorem dksX1_splits_1 : cX1_splits.data.toList.drop 24 = dktX1_splits_1 := dk_seg dksX1_splits_0 24 rfl rfl
theorem dksX1_splits_2 : cX1_splits.data.toList.drop 47 = dktX1_splits_2 := dk_seg dksX1_splits_1 23 rfl rfl
theorem dksX1_splits_3 : cX1_splits.data.toList.drop 69 = dktX1_splits_3 := dk_seg dksX1_splits_2 22 rfl rfl
theorem dksX1_splits_4 : cX1_splits.data.toList.drop 93 = dktX1_splits_4 := dk_seg dksX1_splits_3 24 rfl rfl
theorem dksX1_splits_5 : cX1_splits.data.toList.drop 115 = dktX1_splits_5 := dk_seg dksX1_splits_4 22 rfl rfl
theorem dksX1_splits_6 : cX1_splits.data.toList.drop 137 = dktX1_splits_6 := dk_seg dksX1_splits_5 22 rfl rfl
theorem dksX1_splits_7 : cX1_splits.data.toList.drop 159 = dktX1_splits_7 := dk_seg dksX1_splits_6 22 rfl rfl
theorem dksX1_splits_8 : cX1_splits.data.toList.drop 183 = dktX1_splits_8 := dk_seg dksX1_splits_7 24 rfl rfl
theorem dksX1_splits_9 : cX1_splits.data.toList.drop 207 = dktX1_splits_9 := dk_seg dksX1_splits_8 24 rfl rfl
theorem dksX1_splits_10 : cX1_splits.data.toList.drop 231 = dktX1_splits_10 := dk_seg dksX1_splits_9 24 rfl rfl
theorem dX1_splits_0 : decode cX1_splits 0 = .ok (.aload_n 0, 1) := dk_42 (dk_at dksX1_splits_0 0 rfl rfl)
theorem dX1_splits_1 : decode cX1_splits 1 = .ok (.iload_n 1, 1) := dk_27 (dk_at dksX1_splits_0 1 rfl rfl)
theorem dX1_splits_2 : decode cX1_splits 2 = .ok (.invokevirtual 52, 3) := dk_182 0 52 (dk_at dksX1_splits_0 2 rfl rfl)
theorem dX1_splits_5 : decode cX1_splits 5 = .ok (.astore 4, 2) := dk_58 4 (dk_at dksX1_splits_0 5 rfl rfl)
theorem dX1_splits_7 : decode cX1_splits 7 = .ok (.aload_n 0, 1) := dk_42 (dk_at dksX1_splits_0 7 rfl rfl)
theorem dX1_splits_8 : decode cX1_splits 8 = .ok (.iload_n 1, 1) := dk_27 (dk_at dksX1_splits_0 8 rfl rfl)
theorem dX1_splits_9 : decode cX1_splits 9 = .ok (.invokevirtual 106, 3) := dk_182 0 106 (dk_at dksX1_splits_0 9 rfl rfl)
theorem dX1_splits_12 : decode cX1_splits 12 = .ok (.getfield 195, 3) := dk_180 0 195 (dk_at dksX1_splits_0 12 rfl rfl)
theorem dX1_splits_15 : decode cX1_splits 15 = .ok (.astore 5, 2) := dk_58 5 (dk_at dksX1_splits_0 15 rfl rfl)
theorem dX1_splits_17 : decode cX1_splits 17 = .ok (.iload_n 2, 1) := dk_28 (dk_at dksX1_splits_0 17 rfl rfl)
theorem dX1_splits_18 : decode cX1_splits 18 = .ok (.iconst 1, 1) := dk_4 (dk_at dksX1_splits_0 18 rfl rfl)
theorem dX1_splits_19 : decode cX1_splits 19 = .ok (.if_icmp .ne 11, 3) := dk_160 0 11 (dk_at dksX1_splits_0 19 rfl rfl)
theorem dX1_splits_22 : decode cX1_splits 22 = .ok (.aload 4, 2) := dk_25 4 (dk_at dksX1_splits_0 22 rfl rfl)
theorem dX1_splits_24 : decode cX1_splits 24 = .ok (.getfield 199, 3) := dk_180 0 199 (dk_at dksX1_splits_1 0 rfl rfl)
theorem dX1_splits_27 : decode cX1_splits 27 = .ok (.goto 4, 3) := dk_167 0 4 (dk_at dksX1_splits_1 3 rfl rfl)
theorem dX1_splits_30 : decode cX1_splits 30 = .ok (.iload_n 3, 1) := dk_29 (dk_at dksX1_splits_1 6 rfl rfl)
theorem dX1_splits_31 : decode cX1_splits 31 = .ok (.istore 6, 2) := dk_54 6 (dk_at dksX1_splits_1 7 rfl rfl)
theorem dX1_splits_33 : decode cX1_splits 33 = .ok (.iload_n 2, 1) := dk_28 (dk_at dksX1_splits_1 9 rfl rfl)
theorem dX1_splits_34 : decode cX1_splits 34 = .ok (.iconst 1, 1) := dk_4 (dk_at dksX1_splits_1 10 rfl rfl)
theorem dX1_splits_35 : decode cX1_splits 35 = .ok (.if_icmp .ne 7, 3) := dk_160 0 7 (dk_at dksX1_splits_1 11 rfl rfl)
theorem dX1_splits_38 : decode cX1_splits 38 = .ok (.iload_n 3, 1) := dk_29 (dk_at dksX1_splits_1 14 rfl rfl)
theorem dX1_splits_39 : decode cX1_splits 39 = .ok (.goto 8, 3) := dk_167 0 8 (dk_at dksX1_splits_1 15 rfl rfl)
theorem dX1_splits_42 : decode cX1_splits 42 = .ok (.aload 4, 2) := dk_25 4 (dk_at dksX1_splits_1 18 rfl rfl)
theorem dX1_splits_44 : decode cX1_splits 44 = .ok (.getfield 200, 3) := dk_180 0 200 (dk_at dksX1_splits_1 20 rfl rfl)
theorem dX1_splits_47 : decode cX1_splits 47 = .ok (.istore 7, 2) := dk_54 7 (dk_at dksX1_splits_2 0 rfl rfl)
theorem dX1_splits_49 : decode cX1_splits 49 = .ok (.aload_n 0, 1) := dk_42 (dk_at dksX1_splits_2 2 rfl rfl)
theorem dX1_splits_50 : decode cX1_splits 50 = .ok (.new 57, 3) := dk_187 0 57 (dk_at dksX1_splits_2 3 rfl rfl)
theorem dX1_splits_53 : decode cX1_splits 53 = .ok (.dup, 1) := dk_89 (dk_at dksX1_splits_2 6 rfl rfl)
theorem dX1_splits_54 : decode cX1_splits 54 = .ok (.aload 4, 2) := dk_25 4 (dk_at dksX1_splits_2 7 rfl rfl)
theorem dX1_splits_56 : decode cX1_splits 56 = .ok (.getfield 201, 3) := dk_180 0 201 (dk_at dksX1_splits_2 9 rfl rfl)
theorem dX1_splits_59 : decode cX1_splits 59 = .ok (.aload 4, 2) := dk_25 4 (dk_at dksX1_splits_2 12 rfl rfl)
theorem dX1_splits_61 : decode cX1_splits 61 = .ok (.getfield 202, 3) := dk_180 0 202 (dk_at dksX1_splits_2 14 rfl rfl)
theorem dX1_splits_64 : decode cX1_splits 64 = .ok (.iload 6, 2) := dk_21 6 (dk_at dksX1_splits_2 17 rfl rfl)
theorem dX1_splits_66 : decode cX1_splits 66 = .ok (.iload 7, 2) := dk_21 7 (dk_at dksX1_splits_2 19 rfl rfl)
theorem dX1_splits_68 : decode cX1_splits 68 = .ok (.aload_n 0, 1) := dk_42 (dk_at dksX1_splits_2 21 rfl rfl)
theorem dX1_splits_69 : decode cX1_splits 69 = .ok (.getfield 41, 3) := dk_180 0 41 (dk_at dksX1_splits_3 0 rfl rfl)
theorem dX1_splits_72 : decode cX1_splits 72 = .ok (.iload_n 1, 1) := dk_27 (dk_at dksX1_splits_3 3 rfl rfl)
theorem dX1_splits_73 : decode cX1_splits 73 = .ok (.bipush (-2), 2) := dk_16 254 (dk_at dksX1_splits_3 4 rfl rfl)
theorem dX1_splits_75 : decode cX1_splits 75 = .ok (.invokespecial 87, 3) := dk_183 0 87 (dk_at dksX1_splits_3 6 rfl rfl)
theorem dX1_splits_78 : decode cX1_splits 78 = .ok (.aload 5, 2) := dk_25 5 (dk_at dksX1_splits_3 9 rfl rfl)
theorem dX1_splits_80 : decode cX1_splits 80 = .ok (.invokevirtual 203, 3) := dk_182 0 203 (dk_at dksX1_splits_3 11 rfl rfl)
theorem dX1_splits_83 : decode cX1_splits 83 = .ok (.checkcast 204, 3) := dk_192 0 204 (dk_at dksX1_splits_3 14 rfl rfl)
theorem dX1_splits_86 : decode cX1_splits 86 = .ok (.invokevirtual 90, 3) := dk_182 0 90 (dk_at dksX1_splits_3 17 rfl rfl)
theorem dX1_splits_89 : decode cX1_splits 89 = .ok (.istore 8, 2) := dk_54 8 (dk_at dksX1_splits_3 20 rfl rfl)
theorem dX1_splits_91 : decode cX1_splits 91 = .ok (.iload_n 2, 1) := dk_28 (dk_at dksX1_splits_3 22 rfl rfl)
theorem dX1_splits_92 : decode cX1_splits 92 = .ok (.iconst 1, 1) := dk_4 (dk_at dksX1_splits_3 23 rfl rfl)
theorem dX1_splits_93 : decode cX1_splits 93 = .ok (.if_icmp .ne 11, 3) := dk_160 0 11 (dk_at dksX1_splits_4 0 rfl rfl)
theorem dX1_splits_96 : decode cX1_splits 96 = .ok (.aload 4, 2) := dk_25 4 (dk_at dksX1_splits_4 3 rfl rfl)
theorem dX1_splits_98 : decode cX1_splits 98 = .ok (.getfield 201, 3) := dk_180 0 201 (dk_at dksX1_splits_4 5 rfl rfl)
theorem dX1_splits_101 : decode cX1_splits 101 = .ok (.goto 10, 3) := dk_167 0 10 (dk_at dksX1_splits_4 8 rfl rfl)
theorem dX1_splits_104 : decode cX1_splits 104 = .ok (.aload 4, 2) := dk_25 4 (dk_at dksX1_splits_4 11 rfl rfl)
theorem dX1_splits_106 : decode cX1_splits 106 = .ok (.getfield 201, 3) := dk_180 0 201 (dk_at dksX1_splits_4 13 rfl rfl)
theorem dX1_splits_109 : decode cX1_splits 109 = .ok (.iload_n 3, 1) := dk_29 (dk_at dksX1_splits_4 16 rfl rfl)
theorem dX1_splits_110 : decode cX1_splits 110 = .ok (.iadd, 1) := dk_96 (dk_at dksX1_splits_4 17 rfl rfl)
theorem dX1_splits_111 : decode cX1_splits 111 = .ok (.istore 9, 2) := dk_54 9 (dk_at dksX1_splits_4 18 rfl rfl)
theorem dX1_splits_113 : decode cX1_splits 113 = .ok (.iload_n 2, 1) := dk_28 (dk_at dksX1_splits_4 20 rfl rfl)
theorem dX1_splits_114 : decode cX1_splits 114 = .ok (.iconst 1, 1) := dk_4 (dk_at dksX1_splits_4 21 rfl rfl)
theorem dX1_splits_115 : decode cX1_splits 115 = .ok (.if_icmp .ne 13, 3) := dk_160 0 13 (dk_at dksX1_splits_5 0 rfl rfl)
theorem dX1_splits_118 : decode cX1_splits 118 = .ok (.aload 4, 2) := dk_25 4 (dk_at dksX1_splits_5 3 rfl rfl)
theorem dX1_splits_120 : decode cX1_splits 120 = .ok (.getfield 202, 3) := dk_180 0 202 (dk_at dksX1_splits_5 5 rfl rfl)
theorem dX1_splits_123 : decode cX1_splits 123 = .ok (.iload_n 3, 1) := dk_29 (dk_at dksX1_splits_5 8 rfl rfl)
theorem dX1_splits_124 : decode cX1_splits 124 = .ok (.iadd, 1) := dk_96 (dk_at dksX1_splits_5 9 rfl rfl)
theorem dX1_splits_125 : decode cX1_splits 125 = .ok (.goto 8, 3) := dk_167 0 8 (dk_at dksX1_splits_5 10 rfl rfl)
theorem dX1_splits_128 : decode cX1_splits 128 = .ok (.aload 4, 2) := dk_25 4 (dk_at dksX1_splits_5 13 rfl rfl)
theorem dX1_splits_130 : decode cX1_splits 130 = .ok (.getfield 202, 3) := dk_180 0 202 (dk_at dksX1_splits_5 15 rfl rfl)
theorem dX1_splits_133 : decode cX1_splits 133 = .ok (.istore 10, 2) := dk_54 10 (dk_at dksX1_splits_5 18 rfl rfl)
theorem dX1_splits_135 : decode cX1_splits 135 = .ok (.iload_n 2, 1) := dk_28 (dk_at dksX1_splits_5 20 rfl rfl)
theorem dX1_splits_136 : decode cX1_splits 136 = .ok (.iconst 1, 1) := dk_4 (dk_at dksX1_splits_5 21 rfl rfl)
theorem dX1_splits_137 : decode cX1_splits 137 = .ok (.if_icmp .ne 11, 3) := dk_160 0 11 (dk_at dksX1_splits_6 0 rfl rfl)
theorem dX1_splits_140 : decode cX1_splits 140 = .ok (.aload 4, 2) := dk_25 4 (dk_at dksX1_splits_6 3 rfl rfl)
theorem dX1_splits_142 : decode cX1_splits 142 = .ok (.getfield 199, 3) := dk_180 0 199 (dk_at dksX1_splits_6 5 rfl rfl)
theorem dX1_splits_145 : decode cX1_splits 145 = .ok (.goto 10, 3) := dk_167 0 10 (dk_at dksX1_splits_6 8 rfl rfl)
theorem dX1_splits_148 : decode cX1_splits 148 = .ok (.aload 4, 2) := dk_25 4 (dk_at dksX1_splits_6 11 rfl rfl)
theorem dX1_splits_150 : decode cX1_splits 150 = .ok (.getfield 199, 3) := dk_180 0 199 (dk_at dksX1_splits_6 13 rfl rfl)
theorem dX1_splits_153 : decode cX1_splits 153 = .ok (.iload_n 3, 1) := dk_29 (dk_at dksX1_splits_6 16 rfl rfl)
theorem dX1_splits_154 : decode cX1_splits 154 = .ok (.isub, 1) := dk_100 (dk_at dksX1_splits_6 17 rfl rfl)
theorem dX1_splits_155 : decode cX1_splits 155 = .ok (.istore 11, 2) := dk_54 11 (dk_at dksX1_splits_6 18 rfl rfl)
theorem dX1_splits_157 : decode cX1_splits 157 = .ok (.iload_n 2, 1) := dk_28 (dk_at dksX1_splits_6 20 rfl rfl)
theorem dX1_splits_158 : decode cX1_splits 158 = .ok (.iconst 1, 1) := dk_4 (dk_at dksX1_splits_6 21 rfl rfl)
theorem dX1_splits_159 : decode cX1_splits 159 = .ok (.if_icmp .ne 13, 3) := dk_160 0 13 (dk_at dksX1_splits_7 0 rfl rfl)
theorem dX1_splits_162 : decode cX1_splits 162 = .ok (.aload 4, 2) := dk_25 4 (dk_at dksX1_splits_7 3 rfl rfl)
theorem dX1_splits_164 : decode cX1_splits 164 = .ok (.getfield 200, 3) := dk_180 0 200 (dk_at dksX1_splits_7 5 rfl rfl)
theorem dX1_splits_167 : decode cX1_splits 167 = .ok (.iload_n 3, 1) := dk_29 (dk_at dksX1_splits_7 8 rfl rfl)
theorem dX1_splits_168 : decode cX1_splits 168 = .ok (.isub, 1) := dk_100 (dk_at dksX1_splits_7 9 rfl rfl)
theorem dX1_splits_169 : decode cX1_splits 169 = .ok (.goto 8, 3) := dk_167 0 8 (dk_at dksX1_splits_7 10 rfl rfl)
theorem dX1_splits_172 : decode cX1_splits 172 = .ok (.aload 4, 2) := dk_25 4 (dk_at dksX1_splits_7 13 rfl rfl)
theorem dX1_splits_174 : decode cX1_splits 174 = .ok (.getfield 200, 3) := dk_180 0 200 (dk_at dksX1_splits_7 15 rfl rfl)
theorem dX1_splits_177 : decode cX1_splits 177 = .ok (.istore 12, 2) := dk_54 12 (dk_at dksX1_splits_7 18 rfl rfl)
theorem dX1_splits_179 : decode cX1_splits 179 = .ok (.aload_n 0, 1) := dk_42 (dk_at dksX1_splits_7 20 rfl rfl)
theorem dX1_splits_180 : decode cX1_splits 180 = .ok (.new 57, 3) := dk_187 0 57 (dk_at dksX1_splits_7 21 rfl rfl)
theorem dX1_splits_183 : decode cX1_splits 183 = .ok (.dup, 1) := dk_89 (dk_at dksX1_splits_8 0 rfl rfl)
theorem dX1_splits_184 : decode cX1_splits 184 = .ok (.iload 9, 2) := dk_21 9 (dk_at dksX1_splits_8 1 rfl rfl)
theorem dX1_splits_186 : decode cX1_splits 186 = .ok (.iload 10, 2) := dk_21 10 (dk_at dksX1_splits_8 3 rfl rfl)
theorem dX1_splits_188 : decode cX1_splits 188 = .ok (.iload 11, 2) := dk_21 11 (dk_at dksX1_splits_8 5 rfl rfl)
theorem dX1_splits_190 : decode cX1_splits 190 = .ok (.iload 12, 2) := dk_21 12 (dk_at dksX1_splits_8 7 rfl rfl)
theorem dX1_splits_192 : decode cX1_splits 192 = .ok (.aload_n 0, 1) := dk_42 (dk_at dksX1_splits_8 9 rfl rfl)
theorem dX1_splits_193 : decode cX1_splits 193 = .ok (.getfield 41, 3) := dk_180 0 41 (dk_at dksX1_splits_8 10 rfl rfl)
theorem dX1_splits_196 : decode cX1_splits 196 = .ok (.iload_n 1, 1) := dk_27 (dk_at dksX1_splits_8 13 rfl rfl)
theorem dX1_splits_197 : decode cX1_splits 197 = .ok (.bipush (-2), 2) := dk_16 254 (dk_at dksX1_splits_8 14 rfl rfl)
theorem dX1_splits_199 : decode cX1_splits 199 = .ok (.invokespecial 87, 3) := dk_183 0 87 (dk_at dksX1_splits_8 16 rfl rfl)
theorem dX1_splits_202 : decode cX1_splits 202 = .ok (.aload 5, 2) := dk_25 5 (dk_at dksX1_splits_8 19 rfl rfl)
theorem dX1_splits_204 : decode cX1_splits 204 = .ok (.invokevirtual 203, 3) := dk_182 0 203 (dk_at dksX1_splits_8 21 rfl rfl)
theorem dX1_splits_207 : decode cX1_splits 207 = .ok (.checkcast 204, 3) := dk_192 0 204 (dk_at dksX1_splits_9 0 rfl rfl)
theorem dX1_splits_210 : decode cX1_splits 210 = .ok (.invokevirtual 90, 3) := dk_182 0 90 (dk_at dksX1_splits_9 3 rfl rfl)
theorem dX1_splits_213 : decode cX1_splits 213 = .ok (.istore 13, 2) := dk_54 13 (dk_at dksX1_splits_9 6 rfl rfl)
theorem dX1_splits_215 : decode cX1_splits 215 = .ok (.aload_n 0, 1) := dk_42 (dk_at dksX1_splits_9 8 rfl rfl)
theorem dX1_splits_216 : decode cX1_splits 216 = .ok (.iload_n 1, 1) := dk_27 (dk_at dksX1_splits_9 9 rfl rfl)
theorem dX1_splits_217 : decode cX1_splits 217 = .ok (.iload 8, 2) := dk_21 8 (dk_at dksX1_splits_9 10 rfl rfl)
theorem dX1_splits_219 : decode cX1_splits 219 = .ok (.invokevirtual 208, 3) := dk_182 0 208 (dk_at dksX1_splits_9 12 rfl rfl)
theorem dX1_splits_222 : decode cX1_splits 222 = .ok (.aload_n 0, 1) := dk_42 (dk_at dksX1_splits_9 15 rfl rfl)
theorem dX1_splits_223 : decode cX1_splits 223 = .ok (.iload_n 1, 1) := dk_27 (dk_at dksX1_splits_9 16 rfl rfl)
theorem dX1_splits_224 : decode cX1_splits 224 = .ok (.iload 13, 2) := dk_21 13 (dk_at dksX1_splits_9 17 rfl rfl)
theorem dX1_splits_226 : decode cX1_splits 226 = .ok (.invokevirtual 208, 3) := dk_182 0 208 (dk_at dksX1_splits_9 19 rfl rfl)
theorem dX1_splits_229 : decode cX1_splits 229 = .ok (.aload_n 0, 1) := dk_42 (dk_at dksX1_splits_9 22 rfl rfl)
theorem dX1_splits_230 : decode cX1_splits 230 = .ok (.iload_n 1, 1) := dk_27 (dk_at dksX1_splits_9 23 rfl rfl)
theorem dX1_splits_231 : decode cX1_splits 231 = .ok (.invokevirtual 212, 3) := dk_182 0 212 (dk_at dksX1_splits_10 0 rfl rfl)
theorem dX1_splits_234 : decode cX1_splits 234 = .ok (.iload 8, 2) := dk_21 8 (dk_at dksX1_splits_10 3 rfl rfl)
theorem dX1_splits_236 : decode cX1_splits 236 = .ok (.ireturn, 1) := dk_172 (dk_at dksX1_splits_10 5 rfl rfl)
abbrev cX1_deed : ByteArray := prog_9_method_9_code
def yX1_deed : MethodName := ⟨RX1, "deed", "(I)LLandFolio$Deed;"⟩
def dkwX1_deed_0 : List UInt8 := [42, 27, 17, 39, 15, 182, 0, 102, 176]
abbrev dktX1_deed_0 : List UInt8 := dkwX1_deed_0 ++ []
theorem dksX1_deed_0 : cX1_deed.data.toList.drop 0 = dktX1_deed_0 := by decide +kernel
theorem dX1_deed_0 : decode cX1_deed 0 = .ok (.aload_n 0, 1) := dk_42 (dk_at dksX1_deed_0 0 rfl rfl)
theorem dX1_deed_1 : decode cX1_deed 1 = .ok (.iload_n 1, 1) := dk_27 (dk_at dksX1_deed_0 1 rfl rfl)
theorem dX1_deed_2 : decode cX1_deed 2 = .ok (.sipush 9999, 3) := dk_17 39 15 (dk_at dksX1_deed_0 2 rfl rfl)
theorem dX1_deed_5 : decode cX1_deed 5 = .ok (.invokevirtual 102, 3) := dk_182 0 102 (dk_at dksX1_deed_0 5 rfl rfl)
theorem dX1_deed_8 : decode cX1_deed 8 = .ok (.areturn, 1) := dk_176 (dk_at dksX1_deed_0 8 rfl rfl)
abbrev cX1_deedOn : ByteArray := prog_9_method_8_code
def yX1_deedOn : MethodName := ⟨RX1, "deedOn", "(II)LLandFolio$Deed;"⟩
def dkwX1_deedOn_3 : List UInt8 := [45, 78, 132, 4, 1, 167, 255, 186, 45, 176]
abbrev dktX1_deedOn_3 : List UInt8 := dkwX1_deedOn_3 ++ []
def dkwX1_deedOn_2 : List UInt8 := [163, 0, 24, 45, 198, 0, 15, 25, 5, 180, 0, 101, 45, 180, 0, 101, 161, 0, 8, 25, 5, 167, 0, 4]
abbrev dktX1_deedOn_2 : List UInt8 := dkwX1_deedOn_2 ++ dktX1_deedOn_3
def dkwX1_deedOn_1 : List UInt8 := [182, 0, 84, 192, 0, 94, 58, 5, 25, 5, 180, 0, 99, 27, 160, 0, 33, 25, 5, 180, 0, 101, 28]
abbrev dktX1_deedOn_1 : List UInt8 := dkwX1_deedOn_1 ++ dktX1_deedOn_2
def dkwX1_deedOn_0 : List UInt8 := [1, 78, 3, 54, 4, 21, 4, 42, 180, 0, 21, 182, 0, 48, 162, 0, 64, 42, 180, 0, 21, 21, 4]
abbrev dktX1_deedOn_0 : List UInt8 := dkwX1_deedOn_0 ++ dktX1_deedOn_1
theorem dksX1_deedOn_0 : cX1_deedOn.data.toList.drop 0 = dktX1_deedOn_0 := by decide +kernel
theorem dksX1_deedOn_1 : cX1_deedOn.data.toList.drop 23 = dktX1_deedOn_1 := dk_seg dksX1_deedOn_0 23 rfl rfl
theorem dksX1_deedOn_2 : cX1_deedOn.data.toList.drop 46 = dktX1_deedOn_2 := dk_seg dksX1_deedOn_1 23 rfl rfl
theorem dksX1_deedOn_3 : cX1_deedOn.data.toList.drop 70 = dktX1_deedOn_3 := dk_seg dksX1_deedOn_2 24 rfl rfl
theorem dX1_deedOn_0 : decode cX1_deedOn 0 = .ok (.aconst_null, 1) := dk_1 (dk_at dksX1_deedOn_0 0 rfl rfl)
theorem dX1_deedOn_1 : decode cX1_deedOn 1 = .ok (.astore_n 3, 1) := dk_78 (dk_at dksX1_deedOn_0 1 rfl rfl)
theorem dX1_deedOn_2 : decode cX1_deedOn 2 = .ok (.iconst 0, 1) := dk_3 (dk_at dksX1_deedOn_0 2 rfl rfl)
theorem dX1_deedOn_3 : decode cX1_deedOn 3 = .ok (.istore 4, 2) := dk_54 4 (dk_at dksX1_deedOn_0 3 rfl rfl)
theorem dX1_deedOn_5 : decode cX1_deedOn 5 = .ok (.iload 4, 2) := dk_21 4 (dk_at dksX1_deedOn_0 5 rfl rfl)
theorem dX1_deedOn_7 : decode cX1_deedOn 7 = .ok (.aload_n 0, 1) := dk_42 (dk_at dksX1_deedOn_0 7 rfl rfl)
theorem dX1_deedOn_8 : decode cX1_deedOn 8 = .ok (.getfield 21, 3) := dk_180 0 21 (dk_at dksX1_deedOn_0 8 rfl rfl)
theorem dX1_deedOn_11 : decode cX1_deedOn 11 = .ok (.invokevirtual 48, 3) := dk_182 0 48 (dk_at dksX1_deedOn_0 11 rfl rfl)
theorem dX1_deedOn_14 : decode cX1_deedOn 14 = .ok (.if_icmp .ge 64, 3) := dk_162 0 64 (dk_at dksX1_deedOn_0 14 rfl rfl)
theorem dX1_deedOn_17 : decode cX1_deedOn 17 = .ok (.aload_n 0, 1) := dk_42 (dk_at dksX1_deedOn_0 17 rfl rfl)
theorem dX1_deedOn_18 : decode cX1_deedOn 18 = .ok (.getfield 21, 3) := dk_180 0 21 (dk_at dksX1_deedOn_0 18 rfl rfl)
theorem dX1_deedOn_21 : decode cX1_deedOn 21 = .ok (.iload 4, 2) := dk_21 4 (dk_at dksX1_deedOn_0 21 rfl rfl)
theorem dX1_deedOn_23 : decode cX1_deedOn 23 = .ok (.invokevirtual 84, 3) := dk_182 0 84 (dk_at dksX1_deedOn_1 0 rfl rfl)
theorem dX1_deedOn_26 : decode cX1_deedOn 26 = .ok (.checkcast 94, 3) := dk_192 0 94 (dk_at dksX1_deedOn_1 3 rfl rfl)
theorem dX1_deedOn_29 : decode cX1_deedOn 29 = .ok (.astore 5, 2) := dk_58 5 (dk_at dksX1_deedOn_1 6 rfl rfl)
theorem dX1_deedOn_31 : decode cX1_deedOn 31 = .ok (.aload 5, 2) := dk_25 5 (dk_at dksX1_deedOn_1 8 rfl rfl)
theorem dX1_deedOn_33 : decode cX1_deedOn 33 = .ok (.getfield 99, 3) := dk_180 0 99 (dk_at dksX1_deedOn_1 10 rfl rfl)
theorem dX1_deedOn_36 : decode cX1_deedOn 36 = .ok (.iload_n 1, 1) := dk_27 (dk_at dksX1_deedOn_1 13 rfl rfl)
theorem dX1_deedOn_37 : decode cX1_deedOn 37 = .ok (.if_icmp .ne 33, 3) := dk_160 0 33 (dk_at dksX1_deedOn_1 14 rfl rfl)
theorem dX1_deedOn_40 : decode cX1_deedOn 40 = .ok (.aload 5, 2) := dk_25 5 (dk_at dksX1_deedOn_1 17 rfl rfl)
theorem dX1_deedOn_42 : decode cX1_deedOn 42 = .ok (.getfield 101, 3) := dk_180 0 101 (dk_at dksX1_deedOn_1 19 rfl rfl)
theorem dX1_deedOn_45 : decode cX1_deedOn 45 = .ok (.iload_n 2, 1) := dk_28 (dk_at dksX1_deedOn_1 22 rfl rfl)
theorem dX1_deedOn_46 : decode cX1_deedOn 46 = .ok (.if_icmp .gt 24, 3) := dk_163 0 24 (dk_at dksX1_deedOn_2 0 rfl rfl)
theorem dX1_deedOn_49 : decode cX1_deedOn 49 = .ok (.aload_n 3, 1) := dk_45 (dk_at dksX1_deedOn_2 3 rfl rfl)
theorem dX1_deedOn_50 : decode cX1_deedOn 50 = .ok (.ifnull 15, 3) := dk_198 0 15 (dk_at dksX1_deedOn_2 4 rfl rfl)
theorem dX1_deedOn_53 : decode cX1_deedOn 53 = .ok (.aload 5, 2) := dk_25 5 (dk_at dksX1_deedOn_2 7 rfl rfl)
theorem dX1_deedOn_55 : decode cX1_deedOn 55 = .ok (.getfield 101, 3) := dk_180 0 101 (dk_at dksX1_deedOn_2 9 rfl rfl)
theorem dX1_deedOn_58 : decode cX1_deedOn 58 = .ok (.aload_n 3, 1) := dk_45 (dk_at dksX1_deedOn_2 12 rfl rfl)
theorem dX1_deedOn_59 : decode cX1_deedOn 59 = .ok (.getfield 101, 3) := dk_180 0 101 (dk_at dksX1_deedOn_2 13 rfl rfl)
theorem dX1_deedOn_62 : decode cX1_deedOn 62 = .ok (.if_icmp .lt 8, 3) := dk_161 0 8 (dk_at dksX1_deedOn_2 16 rfl rfl)
theorem dX1_deedOn_65 : decode cX1_deedOn 65 = .ok (.aload 5, 2) := dk_25 5 (dk_at dksX1_deedOn_2 19 rfl rfl)
theorem dX1_deedOn_67 : decode cX1_deedOn 67 = .ok (.goto 4, 3) := dk_167 0 4 (dk_at dksX1_deedOn_2 21 rfl rfl)
theorem dX1_deedOn_70 : decode cX1_deedOn 70 = .ok (.aload_n 3, 1) := dk_45 (dk_at dksX1_deedOn_3 0 rfl rfl)
theorem dX1_deedOn_71 : decode cX1_deedOn 71 = .ok (.astore_n 3, 1) := dk_78 (dk_at dksX1_deedOn_3 1 rfl rfl)
theorem dX1_deedOn_72 : decode cX1_deedOn 72 = .ok (.iinc 4 1, 3) := dk_132 4 1 (dk_at dksX1_deedOn_3 2 rfl rfl)
theorem dX1_deedOn_75 : decode cX1_deedOn 75 = .ok (.goto (-70), 3) := dk_167 255 186 (dk_at dksX1_deedOn_3 5 rfl rfl)
theorem dX1_deedOn_78 : decode cX1_deedOn 78 = .ok (.aload_n 3, 1) := dk_45 (dk_at dksX1_deedOn_3 8 rfl rfl)
theorem dX1_deedOn_79 : decode cX1_deedOn 79 = .ok (.areturn, 1) := dk_176 (dk_at dksX1_deedOn_3 9 rfl rfl)
abbrev cX1_moves : ByteArray := prog_9_method_20_code
def yX1_moves : MethodName := ⟨RX1, "moves", "(II)V"⟩
def dkwX1_moves_2 : List UInt8 := [28, 182, 0, 186, 132, 3, 1, 167, 255, 204, 177]
abbrev dktX1_moves_2 : List UInt8 := dkwX1_moves_2 ++ []
def dkwX1_moves_1 : List UInt8 := [182, 0, 181, 153, 0, 25, 25, 4, 42, 28, 182, 0, 52, 184, 0, 182, 153, 0, 12, 25, 4, 180, 0, 145]
abbrev dktX1_moves_1 : List UInt8 := dkwX1_moves_1 ++ dktX1_moves_2
def dkwX1_moves_0 : List UInt8 := [3, 62, 29, 42, 180, 0, 24, 182, 0, 48, 162, 0, 47, 42, 29, 182, 0, 66, 58, 4, 25, 4, 27]
abbrev dktX1_moves_0 : List UInt8 := dkwX1_moves_0 ++ dktX1_moves_1
theorem dksX1_moves_0 : cX1_moves.data.toList.drop 0 = dktX1_moves_0 := by decide +kernel
theorem dksX1_moves_1 : cX1_moves.data.toList.drop 23 = dktX1_moves_1 := dk_seg dksX1_moves_0 23 rfl rfl
theorem dksX1_moves_2 : cX1_moves.data.toList.drop 47 = dktX1_moves_2 := dk_seg dksX1_moves_1 24 rfl rfl
theorem dX1_moves_0 : decode cX1_moves 0 = .ok (.iconst 0, 1) := dk_3 (dk_at dksX1_moves_0 0 rfl rfl)
theorem dX1_moves_1 : decode cX1_moves 1 = .ok (.istore_n 3, 1) := dk_62 (dk_at dksX1_moves_0 1 rfl rfl)
theorem dX1_moves_2 : decode cX1_moves 2 = .ok (.iload_n 3, 1) := dk_29 (dk_at dksX1_moves_0 2 rfl rfl)
theorem dX1_moves_3 : decode cX1_moves 3 = .ok (.aload_n 0, 1) := dk_42 (dk_at dksX1_moves_0 3 rfl rfl)
theorem dX1_moves_4 : decode cX1_moves 4 = .ok (.getfield 24, 3) := dk_180 0 24 (dk_at dksX1_moves_0 4 rfl rfl)
theorem dX1_moves_7 : decode cX1_moves 7 = .ok (.invokevirtual 48, 3) := dk_182 0 48 (dk_at dksX1_moves_0 7 rfl rfl)
theorem dX1_moves_10 : decode cX1_moves 10 = .ok (.if_icmp .ge 47, 3) := dk_162 0 47 (dk_at dksX1_moves_0 10 rfl rfl)
theorem dX1_moves_13 : decode cX1_moves 13 = .ok (.aload_n 0, 1) := dk_42 (dk_at dksX1_moves_0 13 rfl rfl)
theorem dX1_moves_14 : decode cX1_moves 14 = .ok (.iload_n 3, 1) := dk_29 (dk_at dksX1_moves_0 14 rfl rfl)
theorem dX1_moves_15 : decode cX1_moves 15 = .ok (.invokevirtual 66, 3) := dk_182 0 66 (dk_at dksX1_moves_0 15 rfl rfl)
theorem dX1_moves_18 : decode cX1_moves 18 = .ok (.astore 4, 2) := dk_58 4 (dk_at dksX1_moves_0 18 rfl rfl)
theorem dX1_moves_20 : decode cX1_moves 20 = .ok (.aload 4, 2) := dk_25 4 (dk_at dksX1_moves_0 20 rfl rfl)
theorem dX1_moves_22 : decode cX1_moves 22 = .ok (.iload_n 1, 1) := dk_27 (dk_at dksX1_moves_0 22 rfl rfl)
theorem dX1_moves_23 : decode cX1_moves 23 = .ok (.invokevirtual 181, 3) := dk_182 0 181 (dk_at dksX1_moves_1 0 rfl rfl)
theorem dX1_moves_26 : decode cX1_moves 26 = .ok (.ifCond .eq 25, 3) := dk_153 0 25 (dk_at dksX1_moves_1 3 rfl rfl)
theorem dX1_moves_29 : decode cX1_moves 29 = .ok (.aload 4, 2) := dk_25 4 (dk_at dksX1_moves_1 6 rfl rfl)
theorem dX1_moves_31 : decode cX1_moves 31 = .ok (.aload_n 0, 1) := dk_42 (dk_at dksX1_moves_1 8 rfl rfl)
theorem dX1_moves_32 : decode cX1_moves 32 = .ok (.iload_n 2, 1) := dk_28 (dk_at dksX1_moves_1 9 rfl rfl)
theorem dX1_moves_33 : decode cX1_moves 33 = .ok (.invokevirtual 52, 3) := dk_182 0 52 (dk_at dksX1_moves_1 10 rfl rfl)
theorem dX1_moves_36 : decode cX1_moves 36 = .ok (.invokestatic 182, 3) := dk_184 0 182 (dk_at dksX1_moves_1 13 rfl rfl)
theorem dX1_moves_39 : decode cX1_moves 39 = .ok (.ifCond .eq 12, 3) := dk_153 0 12 (dk_at dksX1_moves_1 16 rfl rfl)
theorem dX1_moves_42 : decode cX1_moves 42 = .ok (.aload 4, 2) := dk_25 4 (dk_at dksX1_moves_1 19 rfl rfl)
theorem dX1_moves_44 : decode cX1_moves 44 = .ok (.getfield 145, 3) := dk_180 0 145 (dk_at dksX1_moves_1 21 rfl rfl)
theorem dX1_moves_47 : decode cX1_moves 47 = .ok (.iload_n 2, 1) := dk_28 (dk_at dksX1_moves_2 0 rfl rfl)
theorem dX1_moves_48 : decode cX1_moves 48 = .ok (.invokevirtual 186, 3) := dk_182 0 186 (dk_at dksX1_moves_2 1 rfl rfl)
theorem dX1_moves_51 : decode cX1_moves 51 = .ok (.iinc 3 1, 3) := dk_132 3 1 (dk_at dksX1_moves_2 4 rfl rfl)
theorem dX1_moves_54 : decode cX1_moves 54 = .ok (.goto (-52), 3) := dk_167 255 204 (dk_at dksX1_moves_2 7 rfl rfl)
theorem dX1_moves_57 : decode cX1_moves 57 = .ok (.return_, 1) := dk_177 (dk_at dksX1_moves_2 10 rfl rfl)
abbrev cX1_canLie : ByteArray := prog_9_method_19_code
def yX1_canLie : MethodName := ⟨RX1, "canLie", "(LLandFolio$Burden;LLandFolio$Parcel;)Z"⟩
def dkwX1_canLie_1 : List UInt8 := [153, 0, 7, 4, 167, 0, 4, 3, 172]
abbrev dktX1_canLie_1 : List UInt8 := dkwX1_canLie_1 ++ []
def dkwX1_canLie_0 : List UInt8 := [42, 193, 0, 173, 153, 0, 23, 42, 192, 0, 173, 77, 43, 44, 180, 0, 175, 44, 180, 0, 178, 182, 0, 122]
abbrev dktX1_canLie_0 : List UInt8 := dkwX1_canLie_0 ++ dktX1_canLie_1
theorem dksX1_canLie_0 : cX1_canLie.data.toList.drop 0 = dktX1_canLie_0 := by decide +kernel
theorem dksX1_canLie_1 : cX1_canLie.data.toList.drop 24 = dktX1_canLie_1 := dk_seg dksX1_canLie_0 24 rfl rfl
theorem dX1_canLie_0 : decode cX1_canLie 0 = .ok (.aload_n 0, 1) := dk_42 (dk_at dksX1_canLie_0 0 rfl rfl)
theorem dX1_canLie_1 : decode cX1_canLie 1 = .ok (.instanceof 173, 3) := dk_193 0 173 (dk_at dksX1_canLie_0 1 rfl rfl)
theorem dX1_canLie_4 : decode cX1_canLie 4 = .ok (.ifCond .eq 23, 3) := dk_153 0 23 (dk_at dksX1_canLie_0 4 rfl rfl)
theorem dX1_canLie_7 : decode cX1_canLie 7 = .ok (.aload_n 0, 1) := dk_42 (dk_at dksX1_canLie_0 7 rfl rfl)
theorem dX1_canLie_8 : decode cX1_canLie 8 = .ok (.checkcast 173, 3) := dk_192 0 173 (dk_at dksX1_canLie_0 8 rfl rfl)
theorem dX1_canLie_11 : decode cX1_canLie 11 = .ok (.astore_n 2, 1) := dk_77 (dk_at dksX1_canLie_0 11 rfl rfl)
theorem dX1_canLie_12 : decode cX1_canLie 12 = .ok (.aload_n 1, 1) := dk_43 (dk_at dksX1_canLie_0 12 rfl rfl)
theorem dX1_canLie_13 : decode cX1_canLie 13 = .ok (.aload_n 2, 1) := dk_44 (dk_at dksX1_canLie_0 13 rfl rfl)
theorem dX1_canLie_14 : decode cX1_canLie 14 = .ok (.getfield 175, 3) := dk_180 0 175 (dk_at dksX1_canLie_0 14 rfl rfl)
theorem dX1_canLie_17 : decode cX1_canLie 17 = .ok (.aload_n 2, 1) := dk_44 (dk_at dksX1_canLie_0 17 rfl rfl)
theorem dX1_canLie_18 : decode cX1_canLie 18 = .ok (.getfield 178, 3) := dk_180 0 178 (dk_at dksX1_canLie_0 18 rfl rfl)
theorem dX1_canLie_21 : decode cX1_canLie 21 = .ok (.invokevirtual 122, 3) := dk_182 0 122 (dk_at dksX1_canLie_0 21 rfl rfl)
theorem dX1_canLie_24 : decode cX1_canLie 24 = .ok (.ifCond .eq 7, 3) := dk_153 0 7 (dk_at dksX1_canLie_1 0 rfl rfl)
theorem dX1_canLie_27 : decode cX1_canLie 27 = .ok (.iconst 1, 1) := dk_4 (dk_at dksX1_canLie_1 3 rfl rfl)
theorem dX1_canLie_28 : decode cX1_canLie 28 = .ok (.goto 4, 3) := dk_167 0 4 (dk_at dksX1_canLie_1 4 rfl rfl)
theorem dX1_canLie_31 : decode cX1_canLie 31 = .ok (.iconst 0, 1) := dk_3 (dk_at dksX1_canLie_1 7 rfl rfl)
theorem dX1_canLie_32 : decode cX1_canLie 32 = .ok (.ireturn, 1) := dk_172 (dk_at dksX1_canLie_1 8 rfl rfl)
abbrev cX1_goes : ByteArray := prog_9_method_21_code
def yX1_goes : MethodName := ⟨RX1, "goes", "(I)V"⟩
def dkwX1_goes_1 : List UInt8 := [162, 0, 21, 42, 28, 182, 0, 66, 180, 0, 145, 27, 182, 0, 192, 132, 2, 1, 167, 255, 230, 177]
abbrev dktX1_goes_1 : List UInt8 := dkwX1_goes_1 ++ []
def dkwX1_goes_0 : List UInt8 := [42, 27, 182, 0, 52, 42, 180, 0, 41, 181, 0, 189, 3, 61, 28, 42, 180, 0, 24, 182, 0, 48]
abbrev dktX1_goes_0 : List UInt8 := dkwX1_goes_0 ++ dktX1_goes_1
theorem dksX1_goes_0 : cX1_goes.data.toList.drop 0 = dktX1_goes_0 := by decide +kernel
theorem dksX1_goes_1 : cX1_goes.data.toList.drop 22 = dktX1_goes_1 := dk_seg dksX1_goes_0 22 rfl rfl
theorem dX1_goes_0 : decode cX1_goes 0 = .ok (.aload_n 0, 1) := dk_42 (dk_at dksX1_goes_0 0 rfl rfl)
theorem dX1_goes_1 : decode cX1_goes 1 = .ok (.iload_n 1, 1) := dk_27 (dk_at dksX1_goes_0 1 rfl rfl)
theorem dX1_goes_2 : decode cX1_goes 2 = .ok (.invokevirtual 52, 3) := dk_182 0 52 (dk_at dksX1_goes_0 2 rfl rfl)
theorem dX1_goes_5 : decode cX1_goes 5 = .ok (.aload_n 0, 1) := dk_42 (dk_at dksX1_goes_0 5 rfl rfl)
theorem dX1_goes_6 : decode cX1_goes 6 = .ok (.getfield 41, 3) := dk_180 0 41 (dk_at dksX1_goes_0 6 rfl rfl)
theorem dX1_goes_9 : decode cX1_goes 9 = .ok (.putfield 189, 3) := dk_181 0 189 (dk_at dksX1_goes_0 9 rfl rfl)
theorem dX1_goes_12 : decode cX1_goes 12 = .ok (.iconst 0, 1) := dk_3 (dk_at dksX1_goes_0 12 rfl rfl)
theorem dX1_goes_13 : decode cX1_goes 13 = .ok (.istore_n 2, 1) := dk_61 (dk_at dksX1_goes_0 13 rfl rfl)
theorem dX1_goes_14 : decode cX1_goes 14 = .ok (.iload_n 2, 1) := dk_28 (dk_at dksX1_goes_0 14 rfl rfl)
theorem dX1_goes_15 : decode cX1_goes 15 = .ok (.aload_n 0, 1) := dk_42 (dk_at dksX1_goes_0 15 rfl rfl)
theorem dX1_goes_16 : decode cX1_goes 16 = .ok (.getfield 24, 3) := dk_180 0 24 (dk_at dksX1_goes_0 16 rfl rfl)
theorem dX1_goes_19 : decode cX1_goes 19 = .ok (.invokevirtual 48, 3) := dk_182 0 48 (dk_at dksX1_goes_0 19 rfl rfl)
theorem dX1_goes_22 : decode cX1_goes 22 = .ok (.if_icmp .ge 21, 3) := dk_162 0 21 (dk_at dksX1_goes_1 0 rfl rfl)
theorem dX1_goes_25 : decode cX1_goes 25 = .ok (.aload_n 0, 1) := dk_42 (dk_at dksX1_goes_1 3 rfl rfl)
theorem dX1_goes_26 : decode cX1_goes 26 = .ok (.iload_n 2, 1) := dk_28 (dk_at dksX1_goes_1 4 rfl rfl)
theorem dX1_goes_27 : decode cX1_goes 27 = .ok (.invokevirtual 66, 3) := dk_182 0 66 (dk_at dksX1_goes_1 5 rfl rfl)
theorem dX1_goes_30 : decode cX1_goes 30 = .ok (.getfield 145, 3) := dk_180 0 145 (dk_at dksX1_goes_1 8 rfl rfl)
theorem dX1_goes_33 : decode cX1_goes 33 = .ok (.iload_n 1, 1) := dk_27 (dk_at dksX1_goes_1 11 rfl rfl)
theorem dX1_goes_34 : decode cX1_goes 34 = .ok (.invokevirtual 192, 3) := dk_182 0 192 (dk_at dksX1_goes_1 12 rfl rfl)
theorem dX1_goes_37 : decode cX1_goes 37 = .ok (.iinc 2 1, 3) := dk_132 2 1 (dk_at dksX1_goes_1 15 rfl rfl)
theorem dX1_goes_40 : decode cX1_goes 40 = .ok (.goto (-26), 3) := dk_167 255 230 (dk_at dksX1_goes_1 18 rfl rfl)
theorem dX1_goes_43 : decode cX1_goes 43 = .ok (.return_, 1) := dk_177 (dk_at dksX1_goes_1 21 rfl rfl)
abbrev cX1_gives : ByteArray := prog_9_method_24_code
def yX1_gives : MethodName := ⟨RX1, "gives", "(IIII)V"⟩
def dkwX1_gives_1 : List UInt8 := [79, 25, 5, 29, 92, 46, 21, 4, 96, 79, 42, 27, 25, 5, 182, 0, 218, 177]
abbrev dktX1_gives_1 : List UInt8 := dkwX1_gives_1 ++ []
def dkwX1_gives_0 : List UInt8 := [42, 27, 182, 0, 106, 180, 0, 195, 182, 0, 203, 192, 0, 204, 58, 5, 25, 5, 28, 92, 46, 21, 4, 100]
abbrev dktX1_gives_0 : List UInt8 := dkwX1_gives_0 ++ dktX1_gives_1
theorem dksX1_gives_0 : cX1_gives.data.toList.drop 0 = dktX1_gives_0 := by decide +kernel
theorem dksX1_gives_1 : cX1_gives.data.toList.drop 24 = dktX1_gives_1 := dk_seg dksX1_gives_0 24 rfl rfl
theorem dX1_gives_0 : decode cX1_gives 0 = .ok (.aload_n 0, 1) := dk_42 (dk_at dksX1_gives_0 0 rfl rfl)
theorem dX1_gives_1 : decode cX1_gives 1 = .ok (.iload_n 1, 1) := dk_27 (dk_at dksX1_gives_0 1 rfl rfl)
theorem dX1_gives_2 : decode cX1_gives 2 = .ok (.invokevirtual 106, 3) := dk_182 0 106 (dk_at dksX1_gives_0 2 rfl rfl)
theorem dX1_gives_5 : decode cX1_gives 5 = .ok (.getfield 195, 3) := dk_180 0 195 (dk_at dksX1_gives_0 5 rfl rfl)
theorem dX1_gives_8 : decode cX1_gives 8 = .ok (.invokevirtual 203, 3) := dk_182 0 203 (dk_at dksX1_gives_0 8 rfl rfl)
theorem dX1_gives_11 : decode cX1_gives 11 = .ok (.checkcast 204, 3) := dk_192 0 204 (dk_at dksX1_gives_0 11 rfl rfl)
theorem dX1_gives_14 : decode cX1_gives 14 = .ok (.astore 5, 2) := dk_58 5 (dk_at dksX1_gives_0 14 rfl rfl)
theorem dX1_gives_16 : decode cX1_gives 16 = .ok (.aload 5, 2) := dk_25 5 (dk_at dksX1_gives_0 16 rfl rfl)
theorem dX1_gives_18 : decode cX1_gives 18 = .ok (.iload_n 2, 1) := dk_28 (dk_at dksX1_gives_0 18 rfl rfl)
theorem dX1_gives_19 : decode cX1_gives 19 = .ok (.dup2, 1) := dk_92 (dk_at dksX1_gives_0 19 rfl rfl)
theorem dX1_gives_20 : decode cX1_gives 20 = .ok (.iaload, 1) := dk_46 (dk_at dksX1_gives_0 20 rfl rfl)
theorem dX1_gives_21 : decode cX1_gives 21 = .ok (.iload 4, 2) := dk_21 4 (dk_at dksX1_gives_0 21 rfl rfl)
theorem dX1_gives_23 : decode cX1_gives 23 = .ok (.isub, 1) := dk_100 (dk_at dksX1_gives_0 23 rfl rfl)
theorem dX1_gives_24 : decode cX1_gives 24 = .ok (.iastore, 1) := dk_79 (dk_at dksX1_gives_1 0 rfl rfl)
theorem dX1_gives_25 : decode cX1_gives 25 = .ok (.aload 5, 2) := dk_25 5 (dk_at dksX1_gives_1 1 rfl rfl)
theorem dX1_gives_27 : decode cX1_gives 27 = .ok (.iload_n 3, 1) := dk_29 (dk_at dksX1_gives_1 3 rfl rfl)
theorem dX1_gives_28 : decode cX1_gives 28 = .ok (.dup2, 1) := dk_92 (dk_at dksX1_gives_1 4 rfl rfl)
theorem dX1_gives_29 : decode cX1_gives 29 = .ok (.iaload, 1) := dk_46 (dk_at dksX1_gives_1 5 rfl rfl)
theorem dX1_gives_30 : decode cX1_gives 30 = .ok (.iload 4, 2) := dk_21 4 (dk_at dksX1_gives_1 6 rfl rfl)
theorem dX1_gives_32 : decode cX1_gives 32 = .ok (.iadd, 1) := dk_96 (dk_at dksX1_gives_1 8 rfl rfl)
theorem dX1_gives_33 : decode cX1_gives 33 = .ok (.iastore, 1) := dk_79 (dk_at dksX1_gives_1 9 rfl rfl)
theorem dX1_gives_34 : decode cX1_gives 34 = .ok (.aload_n 0, 1) := dk_42 (dk_at dksX1_gives_1 10 rfl rfl)
theorem dX1_gives_35 : decode cX1_gives 35 = .ok (.iload_n 1, 1) := dk_27 (dk_at dksX1_gives_1 11 rfl rfl)
theorem dX1_gives_36 : decode cX1_gives 36 = .ok (.aload 5, 2) := dk_25 5 (dk_at dksX1_gives_1 12 rfl rfl)
theorem dX1_gives_38 : decode cX1_gives 38 = .ok (.invokevirtual 218, 3) := dk_182 0 218 (dk_at dksX1_gives_1 14 rfl rfl)
theorem dX1_gives_41 : decode cX1_gives 41 = .ok (.return_, 1) := dk_177 (dk_at dksX1_gives_1 17 rfl rfl)
abbrev cX1_deeds : ByteArray := prog_9_method_11_code
def yX1_deeds : MethodName := ⟨RX1, "deeds", "(I[I)V"⟩
def dkwX1_deeds_2 : List UInt8 := [182, 0, 114, 192, 0, 94, 58, 5, 167, 0, 13, 42, 180, 0, 21, 25, 4, 182, 0, 62, 87, 177]
abbrev dktX1_deeds_2 : List UInt8 := dkwX1_deeds_2 ++ []
def dkwX1_deeds_1 : List UInt8 := [180, 0, 101, 42, 180, 0, 41, 160, 0, 28, 42, 180, 0, 21, 42, 180, 0, 21, 45, 182, 0, 110, 25, 4]
abbrev dktX1_deeds_1 : List UInt8 := dkwX1_deeds_1 ++ dktX1_deeds_2
def dkwX1_deeds_0 : List UInt8 := [42, 27, 182, 0, 106, 78, 187, 0, 94, 89, 27, 42, 180, 0, 41, 44, 183, 0, 96, 58, 4, 45]
abbrev dktX1_deeds_0 : List UInt8 := dkwX1_deeds_0 ++ dktX1_deeds_1
theorem dksX1_deeds_0 : cX1_deeds.data.toList.drop 0 = dktX1_deeds_0 := by decide +kernel
theorem dksX1_deeds_1 : cX1_deeds.data.toList.drop 22 = dktX1_deeds_1 := dk_seg dksX1_deeds_0 22 rfl rfl
theorem dksX1_deeds_2 : cX1_deeds.data.toList.drop 46 = dktX1_deeds_2 := dk_seg dksX1_deeds_1 24 rfl rfl
theorem dX1_deeds_0 : decode cX1_deeds 0 = .ok (.aload_n 0, 1) := dk_42 (dk_at dksX1_deeds_0 0 rfl rfl)
theorem dX1_deeds_1 : decode cX1_deeds 1 = .ok (.iload_n 1, 1) := dk_27 (dk_at dksX1_deeds_0 1 rfl rfl)
theorem dX1_deeds_2 : decode cX1_deeds 2 = .ok (.invokevirtual 106, 3) := dk_182 0 106 (dk_at dksX1_deeds_0 2 rfl rfl)
theorem dX1_deeds_5 : decode cX1_deeds 5 = .ok (.astore_n 3, 1) := dk_78 (dk_at dksX1_deeds_0 5 rfl rfl)
theorem dX1_deeds_6 : decode cX1_deeds 6 = .ok (.new 94, 3) := dk_187 0 94 (dk_at dksX1_deeds_0 6 rfl rfl)
theorem dX1_deeds_9 : decode cX1_deeds 9 = .ok (.dup, 1) := dk_89 (dk_at dksX1_deeds_0 9 rfl rfl)
theorem dX1_deeds_10 : decode cX1_deeds 10 = .ok (.iload_n 1, 1) := dk_27 (dk_at dksX1_deeds_0 10 rfl rfl)
theorem dX1_deeds_11 : decode cX1_deeds 11 = .ok (.aload_n 0, 1) := dk_42 (dk_at dksX1_deeds_0 11 rfl rfl)
theorem dX1_deeds_12 : decode cX1_deeds 12 = .ok (.getfield 41, 3) := dk_180 0 41 (dk_at dksX1_deeds_0 12 rfl rfl)
theorem dX1_deeds_15 : decode cX1_deeds 15 = .ok (.aload_n 2, 1) := dk_44 (dk_at dksX1_deeds_0 15 rfl rfl)
theorem dX1_deeds_16 : decode cX1_deeds 16 = .ok (.invokespecial 96, 3) := dk_183 0 96 (dk_at dksX1_deeds_0 16 rfl rfl)
theorem dX1_deeds_19 : decode cX1_deeds 19 = .ok (.astore 4, 2) := dk_58 4 (dk_at dksX1_deeds_0 19 rfl rfl)
theorem dX1_deeds_21 : decode cX1_deeds 21 = .ok (.aload_n 3, 1) := dk_45 (dk_at dksX1_deeds_0 21 rfl rfl)
theorem dX1_deeds_22 : decode cX1_deeds 22 = .ok (.getfield 101, 3) := dk_180 0 101 (dk_at dksX1_deeds_1 0 rfl rfl)
theorem dX1_deeds_25 : decode cX1_deeds 25 = .ok (.aload_n 0, 1) := dk_42 (dk_at dksX1_deeds_1 3 rfl rfl)
theorem dX1_deeds_26 : decode cX1_deeds 26 = .ok (.getfield 41, 3) := dk_180 0 41 (dk_at dksX1_deeds_1 4 rfl rfl)
theorem dX1_deeds_29 : decode cX1_deeds 29 = .ok (.if_icmp .ne 28, 3) := dk_160 0 28 (dk_at dksX1_deeds_1 7 rfl rfl)
theorem dX1_deeds_32 : decode cX1_deeds 32 = .ok (.aload_n 0, 1) := dk_42 (dk_at dksX1_deeds_1 10 rfl rfl)
theorem dX1_deeds_33 : decode cX1_deeds 33 = .ok (.getfield 21, 3) := dk_180 0 21 (dk_at dksX1_deeds_1 11 rfl rfl)
theorem dX1_deeds_36 : decode cX1_deeds 36 = .ok (.aload_n 0, 1) := dk_42 (dk_at dksX1_deeds_1 14 rfl rfl)
theorem dX1_deeds_37 : decode cX1_deeds 37 = .ok (.getfield 21, 3) := dk_180 0 21 (dk_at dksX1_deeds_1 15 rfl rfl)
theorem dX1_deeds_40 : decode cX1_deeds 40 = .ok (.aload_n 3, 1) := dk_45 (dk_at dksX1_deeds_1 18 rfl rfl)
theorem dX1_deeds_41 : decode cX1_deeds 41 = .ok (.invokevirtual 110, 3) := dk_182 0 110 (dk_at dksX1_deeds_1 19 rfl rfl)
theorem dX1_deeds_44 : decode cX1_deeds 44 = .ok (.aload 4, 2) := dk_25 4 (dk_at dksX1_deeds_1 22 rfl rfl)
theorem dX1_deeds_46 : decode cX1_deeds 46 = .ok (.invokevirtual 114, 3) := dk_182 0 114 (dk_at dksX1_deeds_2 0 rfl rfl)
theorem dX1_deeds_49 : decode cX1_deeds 49 = .ok (.checkcast 94, 3) := dk_192 0 94 (dk_at dksX1_deeds_2 3 rfl rfl)
theorem dX1_deeds_52 : decode cX1_deeds 52 = .ok (.astore 5, 2) := dk_58 5 (dk_at dksX1_deeds_2 6 rfl rfl)
theorem dX1_deeds_54 : decode cX1_deeds 54 = .ok (.goto 13, 3) := dk_167 0 13 (dk_at dksX1_deeds_2 8 rfl rfl)
theorem dX1_deeds_57 : decode cX1_deeds 57 = .ok (.aload_n 0, 1) := dk_42 (dk_at dksX1_deeds_2 11 rfl rfl)
theorem dX1_deeds_58 : decode cX1_deeds 58 = .ok (.getfield 21, 3) := dk_180 0 21 (dk_at dksX1_deeds_2 12 rfl rfl)
theorem dX1_deeds_61 : decode cX1_deeds 61 = .ok (.aload 4, 2) := dk_25 4 (dk_at dksX1_deeds_2 15 rfl rfl)
theorem dX1_deeds_63 : decode cX1_deeds 63 = .ok (.invokevirtual 62, 3) := dk_182 0 62 (dk_at dksX1_deeds_2 17 rfl rfl)
theorem dX1_deeds_66 : decode cX1_deeds 66 = .ok (.pop, 1) := dk_87 (dk_at dksX1_deeds_2 20 rfl rfl)
theorem dX1_deeds_67 : decode cX1_deeds 67 = .ok (.return_, 1) := dk_177 (dk_at dksX1_deeds_2 21 rfl rfl)
abbrev cX1_burdens : ByteArray := prog_9_method_27_code
def yX1_burdens : MethodName := ⟨RX1, "burdens", "(LLandFolio$Burden;I)V"⟩
def dkwX1_burdens_0 : List UInt8 := [42, 180, 0, 24, 43, 182, 0, 62, 87, 43, 180, 0, 145, 28, 182, 0, 186, 177]
abbrev dktX1_burdens_0 : List UInt8 := dkwX1_burdens_0 ++ []
theorem dksX1_burdens_0 : cX1_burdens.data.toList.drop 0 = dktX1_burdens_0 := by decide +kernel
theorem dX1_burdens_0 : decode cX1_burdens 0 = .ok (.aload_n 0, 1) := dk_42 (dk_at dksX1_burdens_0 0 rfl rfl)
theorem dX1_burdens_1 : decode cX1_burdens 1 = .ok (.getfield 24, 3) := dk_180 0 24 (dk_at dksX1_burdens_0 1 rfl rfl)
theorem dX1_burdens_4 : decode cX1_burdens 4 = .ok (.aload_n 1, 1) := dk_43 (dk_at dksX1_burdens_0 4 rfl rfl)
theorem dX1_burdens_5 : decode cX1_burdens 5 = .ok (.invokevirtual 62, 3) := dk_182 0 62 (dk_at dksX1_burdens_0 5 rfl rfl)
theorem dX1_burdens_8 : decode cX1_burdens 8 = .ok (.pop, 1) := dk_87 (dk_at dksX1_burdens_0 8 rfl rfl)
theorem dX1_burdens_9 : decode cX1_burdens 9 = .ok (.aload_n 1, 1) := dk_43 (dk_at dksX1_burdens_0 9 rfl rfl)
theorem dX1_burdens_10 : decode cX1_burdens 10 = .ok (.getfield 145, 3) := dk_180 0 145 (dk_at dksX1_burdens_0 10 rfl rfl)
theorem dX1_burdens_13 : decode cX1_burdens 13 = .ok (.iload_n 2, 1) := dk_28 (dk_at dksX1_burdens_0 13 rfl rfl)
theorem dX1_burdens_14 : decode cX1_burdens 14 = .ok (.invokevirtual 186, 3) := dk_182 0 186 (dk_at dksX1_burdens_0 14 rfl rfl)
theorem dX1_burdens_17 : decode cX1_burdens 17 = .ok (.return_, 1) := dk_177 (dk_at dksX1_burdens_0 17 rfl rfl)
abbrev cX1_hasPath : ByteArray := prog_9_method_26_code
def yX1_hasPath : MethodName := ⟨RX1, "hasPath", "(III)Z"⟩
def dkwX1_hasPath_3 : List UInt8 := [160, 0, 7, 4, 167, 0, 4, 3, 54, 4, 132, 5, 1, 167, 255, 179, 21, 4, 172]
abbrev dktX1_hasPath_3 : List UInt8 := dkwX1_hasPath_3 ++ []
def dkwX1_hasPath_2 : List UInt8 := [27, 182, 0, 221, 153, 0, 25, 25, 6, 180, 0, 175, 28, 160, 0, 16, 25, 6, 180, 0, 178, 29]
abbrev dktX1_hasPath_2 : List UInt8 := dkwX1_hasPath_2 ++ dktX1_hasPath_3
def dkwX1_hasPath_1 : List UInt8 := [21, 5, 182, 0, 66, 58, 7, 25, 7, 193, 0, 173, 153, 0, 41, 25, 7, 192, 0, 173, 58, 6, 25, 6]
abbrev dktX1_hasPath_1 : List UInt8 := dkwX1_hasPath_1 ++ dktX1_hasPath_2
def dkwX1_hasPath_0 : List UInt8 := [3, 54, 4, 3, 54, 5, 21, 5, 42, 180, 0, 24, 182, 0, 48, 162, 0, 71, 21, 4, 154, 0, 53, 42]
abbrev dktX1_hasPath_0 : List UInt8 := dkwX1_hasPath_0 ++ dktX1_hasPath_1
theorem dksX1_hasPath_0 : cX1_hasPath.data.toList.drop 0 = dktX1_hasPath_0 := by decide +kernel
theorem dksX1_hasPath_1 : cX1_hasPath.data.toList.drop 24 = dktX1_hasPath_1 := dk_seg dksX1_hasPath_0 24 rfl rfl
theorem dksX1_hasPath_2 : cX1_hasPath.data.toList.drop 48 = dktX1_hasPath_2 := dk_seg dksX1_hasPath_1 24 rfl rfl
theorem dksX1_hasPath_3 : cX1_hasPath.data.toList.drop 70 = dktX1_hasPath_3 := dk_seg dksX1_hasPath_2 22 rfl rfl
theorem dX1_hasPath_0 : decode cX1_hasPath 0 = .ok (.iconst 0, 1) := dk_3 (dk_at dksX1_hasPath_0 0 rfl rfl)
theorem dX1_hasPath_1 : decode cX1_hasPath 1 = .ok (.istore 4, 2) := dk_54 4 (dk_at dksX1_hasPath_0 1 rfl rfl)
theorem dX1_hasPath_3 : decode cX1_hasPath 3 = .ok (.iconst 0, 1) := dk_3 (dk_at dksX1_hasPath_0 3 rfl rfl)
theorem dX1_hasPath_4 : decode cX1_hasPath 4 = .ok (.istore 5, 2) := dk_54 5 (dk_at dksX1_hasPath_0 4 rfl rfl)
theorem dX1_hasPath_6 : decode cX1_hasPath 6 = .ok (.iload 5, 2) := dk_21 5 (dk_at dksX1_hasPath_0 6 rfl rfl)
theorem dX1_hasPath_8 : decode cX1_hasPath 8 = .ok (.aload_n 0, 1) := dk_42 (dk_at dksX1_hasPath_0 8 rfl rfl)
theorem dX1_hasPath_9 : decode cX1_hasPath 9 = .ok (.getfield 24, 3) := dk_180 0 24 (dk_at dksX1_hasPath_0 9 rfl rfl)
theorem dX1_hasPath_12 : decode cX1_hasPath 12 = .ok (.invokevirtual 48, 3) := dk_182 0 48 (dk_at dksX1_hasPath_0 12 rfl rfl)
theorem dX1_hasPath_15 : decode cX1_hasPath 15 = .ok (.if_icmp .ge 71, 3) := dk_162 0 71 (dk_at dksX1_hasPath_0 15 rfl rfl)
theorem dX1_hasPath_18 : decode cX1_hasPath 18 = .ok (.iload 4, 2) := dk_21 4 (dk_at dksX1_hasPath_0 18 rfl rfl)
theorem dX1_hasPath_20 : decode cX1_hasPath 20 = .ok (.ifCond .ne 53, 3) := dk_154 0 53 (dk_at dksX1_hasPath_0 20 rfl rfl)
theorem dX1_hasPath_23 : decode cX1_hasPath 23 = .ok (.aload_n 0, 1) := dk_42 (dk_at dksX1_hasPath_0 23 rfl rfl)
theorem dX1_hasPath_24 : decode cX1_hasPath 24 = .ok (.iload 5, 2) := dk_21 5 (dk_at dksX1_hasPath_1 0 rfl rfl)
theorem dX1_hasPath_26 : decode cX1_hasPath 26 = .ok (.invokevirtual 66, 3) := dk_182 0 66 (dk_at dksX1_hasPath_1 2 rfl rfl)
theorem dX1_hasPath_29 : decode cX1_hasPath 29 = .ok (.astore 7, 2) := dk_58 7 (dk_at dksX1_hasPath_1 5 rfl rfl)
theorem dX1_hasPath_31 : decode cX1_hasPath 31 = .ok (.aload 7, 2) := dk_25 7 (dk_at dksX1_hasPath_1 7 rfl rfl)
theorem dX1_hasPath_33 : decode cX1_hasPath 33 = .ok (.instanceof 173, 3) := dk_193 0 173 (dk_at dksX1_hasPath_1 9 rfl rfl)
theorem dX1_hasPath_36 : decode cX1_hasPath 36 = .ok (.ifCond .eq 41, 3) := dk_153 0 41 (dk_at dksX1_hasPath_1 12 rfl rfl)
theorem dX1_hasPath_39 : decode cX1_hasPath 39 = .ok (.aload 7, 2) := dk_25 7 (dk_at dksX1_hasPath_1 15 rfl rfl)
theorem dX1_hasPath_41 : decode cX1_hasPath 41 = .ok (.checkcast 173, 3) := dk_192 0 173 (dk_at dksX1_hasPath_1 17 rfl rfl)
theorem dX1_hasPath_44 : decode cX1_hasPath 44 = .ok (.astore 6, 2) := dk_58 6 (dk_at dksX1_hasPath_1 20 rfl rfl)
theorem dX1_hasPath_46 : decode cX1_hasPath 46 = .ok (.aload 6, 2) := dk_25 6 (dk_at dksX1_hasPath_1 22 rfl rfl)
theorem dX1_hasPath_48 : decode cX1_hasPath 48 = .ok (.iload_n 1, 1) := dk_27 (dk_at dksX1_hasPath_2 0 rfl rfl)
theorem dX1_hasPath_49 : decode cX1_hasPath 49 = .ok (.invokevirtual 221, 3) := dk_182 0 221 (dk_at dksX1_hasPath_2 1 rfl rfl)
theorem dX1_hasPath_52 : decode cX1_hasPath 52 = .ok (.ifCond .eq 25, 3) := dk_153 0 25 (dk_at dksX1_hasPath_2 4 rfl rfl)
theorem dX1_hasPath_55 : decode cX1_hasPath 55 = .ok (.aload 6, 2) := dk_25 6 (dk_at dksX1_hasPath_2 7 rfl rfl)
theorem dX1_hasPath_57 : decode cX1_hasPath 57 = .ok (.getfield 175, 3) := dk_180 0 175 (dk_at dksX1_hasPath_2 9 rfl rfl)
theorem dX1_hasPath_60 : decode cX1_hasPath 60 = .ok (.iload_n 2, 1) := dk_28 (dk_at dksX1_hasPath_2 12 rfl rfl)
theorem dX1_hasPath_61 : decode cX1_hasPath 61 = .ok (.if_icmp .ne 16, 3) := dk_160 0 16 (dk_at dksX1_hasPath_2 13 rfl rfl)
theorem dX1_hasPath_64 : decode cX1_hasPath 64 = .ok (.aload 6, 2) := dk_25 6 (dk_at dksX1_hasPath_2 16 rfl rfl)
theorem dX1_hasPath_66 : decode cX1_hasPath 66 = .ok (.getfield 178, 3) := dk_180 0 178 (dk_at dksX1_hasPath_2 18 rfl rfl)
theorem dX1_hasPath_69 : decode cX1_hasPath 69 = .ok (.iload_n 3, 1) := dk_29 (dk_at dksX1_hasPath_2 21 rfl rfl)
theorem dX1_hasPath_70 : decode cX1_hasPath 70 = .ok (.if_icmp .ne 7, 3) := dk_160 0 7 (dk_at dksX1_hasPath_3 0 rfl rfl)
theorem dX1_hasPath_73 : decode cX1_hasPath 73 = .ok (.iconst 1, 1) := dk_4 (dk_at dksX1_hasPath_3 3 rfl rfl)
theorem dX1_hasPath_74 : decode cX1_hasPath 74 = .ok (.goto 4, 3) := dk_167 0 4 (dk_at dksX1_hasPath_3 4 rfl rfl)
theorem dX1_hasPath_77 : decode cX1_hasPath 77 = .ok (.iconst 0, 1) := dk_3 (dk_at dksX1_hasPath_3 7 rfl rfl)
theorem dX1_hasPath_78 : decode cX1_hasPath 78 = .ok (.istore 4, 2) := dk_54 4 (dk_at dksX1_hasPath_3 8 rfl rfl)
theorem dX1_hasPath_80 : decode cX1_hasPath 80 = .ok (.iinc 5 1, 3) := dk_132 5 1 (dk_at dksX1_hasPath_3 10 rfl rfl)
theorem dX1_hasPath_83 : decode cX1_hasPath 83 = .ok (.goto (-77), 3) := dk_167 255 179 (dk_at dksX1_hasPath_3 13 rfl rfl)
theorem dX1_hasPath_86 : decode cX1_hasPath 86 = .ok (.iload 4, 2) := dk_21 4 (dk_at dksX1_hasPath_3 16 rfl rfl)
theorem dX1_hasPath_88 : decode cX1_hasPath 88 = .ok (.ireturn, 1) := dk_172 (dk_at dksX1_hasPath_3 18 rfl rfl)
abbrev cX1_logs : ByteArray := prog_9_method_3_code
def yX1_logs : MethodName := ⟨RX1, "logs", "(III)V"⟩
def dkwX1_logs_1 : List UInt8 := [58, 4, 42, 180, 0, 27, 187, 0, 79, 89, 27, 28, 29, 183, 0, 81, 182, 0, 62, 87, 177]
abbrev dktX1_logs_1 : List UInt8 := dkwX1_logs_1 ++ []
def dkwX1_logs_0 : List UInt8 := [42, 180, 0, 27, 182, 0, 48, 16, 40, 160, 0, 16, 42, 180, 0, 27, 3, 182, 0, 75, 192, 0, 79]
abbrev dktX1_logs_0 : List UInt8 := dkwX1_logs_0 ++ dktX1_logs_1
theorem dksX1_logs_0 : cX1_logs.data.toList.drop 0 = dktX1_logs_0 := by decide +kernel
theorem dksX1_logs_1 : cX1_logs.data.toList.drop 23 = dktX1_logs_1 := dk_seg dksX1_logs_0 23 rfl rfl
theorem dX1_logs_0 : decode cX1_logs 0 = .ok (.aload_n 0, 1) := dk_42 (dk_at dksX1_logs_0 0 rfl rfl)
theorem dX1_logs_1 : decode cX1_logs 1 = .ok (.getfield 27, 3) := dk_180 0 27 (dk_at dksX1_logs_0 1 rfl rfl)
theorem dX1_logs_4 : decode cX1_logs 4 = .ok (.invokevirtual 48, 3) := dk_182 0 48 (dk_at dksX1_logs_0 4 rfl rfl)
theorem dX1_logs_7 : decode cX1_logs 7 = .ok (.bipush 40, 2) := dk_16 40 (dk_at dksX1_logs_0 7 rfl rfl)
theorem dX1_logs_9 : decode cX1_logs 9 = .ok (.if_icmp .ne 16, 3) := dk_160 0 16 (dk_at dksX1_logs_0 9 rfl rfl)
theorem dX1_logs_12 : decode cX1_logs 12 = .ok (.aload_n 0, 1) := dk_42 (dk_at dksX1_logs_0 12 rfl rfl)
theorem dX1_logs_13 : decode cX1_logs 13 = .ok (.getfield 27, 3) := dk_180 0 27 (dk_at dksX1_logs_0 13 rfl rfl)
theorem dX1_logs_16 : decode cX1_logs 16 = .ok (.iconst 0, 1) := dk_3 (dk_at dksX1_logs_0 16 rfl rfl)
theorem dX1_logs_17 : decode cX1_logs 17 = .ok (.invokevirtual 75, 3) := dk_182 0 75 (dk_at dksX1_logs_0 17 rfl rfl)
theorem dX1_logs_20 : decode cX1_logs 20 = .ok (.checkcast 79, 3) := dk_192 0 79 (dk_at dksX1_logs_0 20 rfl rfl)
theorem dX1_logs_23 : decode cX1_logs 23 = .ok (.astore 4, 2) := dk_58 4 (dk_at dksX1_logs_1 0 rfl rfl)
theorem dX1_logs_25 : decode cX1_logs 25 = .ok (.aload_n 0, 1) := dk_42 (dk_at dksX1_logs_1 2 rfl rfl)
theorem dX1_logs_26 : decode cX1_logs 26 = .ok (.getfield 27, 3) := dk_180 0 27 (dk_at dksX1_logs_1 3 rfl rfl)
theorem dX1_logs_29 : decode cX1_logs 29 = .ok (.new 79, 3) := dk_187 0 79 (dk_at dksX1_logs_1 6 rfl rfl)
theorem dX1_logs_32 : decode cX1_logs 32 = .ok (.dup, 1) := dk_89 (dk_at dksX1_logs_1 9 rfl rfl)
theorem dX1_logs_33 : decode cX1_logs 33 = .ok (.iload_n 1, 1) := dk_27 (dk_at dksX1_logs_1 10 rfl rfl)
theorem dX1_logs_34 : decode cX1_logs 34 = .ok (.iload_n 2, 1) := dk_28 (dk_at dksX1_logs_1 11 rfl rfl)
theorem dX1_logs_35 : decode cX1_logs 35 = .ok (.iload_n 3, 1) := dk_29 (dk_at dksX1_logs_1 12 rfl rfl)
theorem dX1_logs_36 : decode cX1_logs 36 = .ok (.invokespecial 81, 3) := dk_183 0 81 (dk_at dksX1_logs_1 13 rfl rfl)
theorem dX1_logs_39 : decode cX1_logs 39 = .ok (.invokevirtual 62, 3) := dk_182 0 62 (dk_at dksX1_logs_1 16 rfl rfl)
theorem dX1_logs_42 : decode cX1_logs 42 = .ok (.pop, 1) := dk_87 (dk_at dksX1_logs_1 19 rfl rfl)
theorem dX1_logs_43 : decode cX1_logs 43 = .ok (.return_, 1) := dk_177 (dk_at dksX1_logs_1 20 rfl rfl)
abbrev cX1_isFree : ByteArray := prog_9_method_13_code
def yX1_isFree : MethodName := ⟨RX1, "isFree", "(I)Z"⟩
def dkwX1_isFree_1 : List UInt8 := [167, 0, 4, 3, 172]
abbrev dktX1_isFree_1 : List UInt8 := dkwX1_isFree_1 ++ []
def dkwX1_isFree_0 : List UInt8 := [42, 27, 182, 0, 52, 182, 0, 118, 153, 0, 18, 42, 27, 182, 0, 52, 180, 0, 126, 154, 0, 7, 4]
abbrev dktX1_isFree_0 : List UInt8 := dkwX1_isFree_0 ++ dktX1_isFree_1
theorem dksX1_isFree_0 : cX1_isFree.data.toList.drop 0 = dktX1_isFree_0 := by decide +kernel
theorem dksX1_isFree_1 : cX1_isFree.data.toList.drop 23 = dktX1_isFree_1 := dk_seg dksX1_isFree_0 23 rfl rfl
theorem dX1_isFree_0 : decode cX1_isFree 0 = .ok (.aload_n 0, 1) := dk_42 (dk_at dksX1_isFree_0 0 rfl rfl)
theorem dX1_isFree_1 : decode cX1_isFree 1 = .ok (.iload_n 1, 1) := dk_27 (dk_at dksX1_isFree_0 1 rfl rfl)
theorem dX1_isFree_2 : decode cX1_isFree 2 = .ok (.invokevirtual 52, 3) := dk_182 0 52 (dk_at dksX1_isFree_0 2 rfl rfl)
theorem dX1_isFree_5 : decode cX1_isFree 5 = .ok (.invokevirtual 118, 3) := dk_182 0 118 (dk_at dksX1_isFree_0 5 rfl rfl)
theorem dX1_isFree_8 : decode cX1_isFree 8 = .ok (.ifCond .eq 18, 3) := dk_153 0 18 (dk_at dksX1_isFree_0 8 rfl rfl)
theorem dX1_isFree_11 : decode cX1_isFree 11 = .ok (.aload_n 0, 1) := dk_42 (dk_at dksX1_isFree_0 11 rfl rfl)
theorem dX1_isFree_12 : decode cX1_isFree 12 = .ok (.iload_n 1, 1) := dk_27 (dk_at dksX1_isFree_0 12 rfl rfl)
theorem dX1_isFree_13 : decode cX1_isFree 13 = .ok (.invokevirtual 52, 3) := dk_182 0 52 (dk_at dksX1_isFree_0 13 rfl rfl)
theorem dX1_isFree_16 : decode cX1_isFree 16 = .ok (.getfield 126, 3) := dk_180 0 126 (dk_at dksX1_isFree_0 16 rfl rfl)
theorem dX1_isFree_19 : decode cX1_isFree 19 = .ok (.ifCond .ne 7, 3) := dk_154 0 7 (dk_at dksX1_isFree_0 19 rfl rfl)
theorem dX1_isFree_22 : decode cX1_isFree 22 = .ok (.iconst 1, 1) := dk_4 (dk_at dksX1_isFree_0 22 rfl rfl)
theorem dX1_isFree_23 : decode cX1_isFree 23 = .ok (.goto 4, 3) := dk_167 0 4 (dk_at dksX1_isFree_1 0 rfl rfl)
theorem dX1_isFree_26 : decode cX1_isFree 26 = .ok (.iconst 0, 1) := dk_3 (dk_at dksX1_isFree_1 3 rfl rfl)
theorem dX1_isFree_27 : decode cX1_isFree 27 = .ok (.ireturn, 1) := dk_172 (dk_at dksX1_isFree_1 4 rfl rfl)
abbrev cX1_joins : ByteArray := prog_9_method_23_code
def yX1_joins : MethodName := ⟨RX1, "joins", "(II)I"⟩
def dkwX1_joins_8 : List UInt8 := [182, 0, 212, 42, 28, 182, 0, 212, 21, 9, 172]
abbrev dktX1_joins_8 : List UInt8 := dkwX1_joins_8 ++ []
def dkwX1_joins_7 : List UInt8 := [192, 0, 204, 182, 0, 90, 54, 9, 42, 27, 21, 9, 182, 0, 208, 42, 28, 21, 9, 182, 0, 208, 42, 27]
abbrev dktX1_joins_7 : List UInt8 := dkwX1_joins_7 ++ dktX1_joins_8
def dkwX1_joins_6 : List UInt8 := [27, 28, 184, 0, 161, 183, 0, 87, 58, 8, 42, 25, 8, 42, 27, 182, 0, 106, 180, 0, 195, 182, 0, 203]
abbrev dktX1_joins_6 : List UInt8 := dkwX1_joins_6 ++ dktX1_joins_7
def dkwX1_joins_5 : List UInt8 := [180, 0, 202, 25, 4, 180, 0, 202, 184, 0, 215, 21, 6, 21, 7, 42, 180, 0, 41, 27, 28, 184, 0, 215]
abbrev dktX1_joins_5 : List UInt8 := dkwX1_joins_5 ++ dktX1_joins_6
def dkwX1_joins_4 : List UInt8 := [45, 180, 0, 200, 54, 7, 187, 0, 57, 89, 45, 180, 0, 201, 25, 4, 180, 0, 201, 184, 0, 215, 45]
abbrev dktX1_joins_4 : List UInt8 := dkwX1_joins_4 ++ dktX1_joins_5
def dkwX1_joins_3 : List UInt8 := [180, 0, 199, 96, 54, 6, 21, 5, 153, 0, 16, 45, 180, 0, 200, 25, 4, 180, 0, 200, 96, 167, 0, 7]
abbrev dktX1_joins_3 : List UInt8 := dkwX1_joins_3 ++ dktX1_joins_4
def dkwX1_joins_2 : List UInt8 := [167, 0, 4, 3, 54, 5, 21, 5, 153, 0, 10, 45, 180, 0, 199, 167, 0, 13, 45, 180, 0, 199, 25, 4]
abbrev dktX1_joins_2 : List UInt8 := dkwX1_joins_2 ++ dktX1_joins_3
def dkwX1_joins_1 : List UInt8 := [180, 0, 201, 25, 4, 180, 0, 201, 160, 0, 19, 45, 180, 0, 199, 25, 4, 180, 0, 199, 160, 0, 7, 4]
abbrev dktX1_joins_1 : List UInt8 := dkwX1_joins_1 ++ dktX1_joins_2
def dkwX1_joins_0 : List UInt8 := [42, 27, 28, 184, 0, 215, 182, 0, 52, 78, 42, 27, 28, 184, 0, 161, 182, 0, 52, 58, 4, 45]
abbrev dktX1_joins_0 : List UInt8 := dkwX1_joins_0 ++ dktX1_joins_1
theorem dksX1_joins_0 : cX1_joins.data.toList.drop 0 = dktX1_joins_0 := by decide +kernel
theorem dksX1_joins_1 : cX1_joins.data.toList.drop 22 = dktX1_joins_1 := dk_seg dksX1_joins_0 22 rfl rfl
theorem dksX1_joins_2 : cX1_joins.data.toList.drop 46 = dktX1_joins_2 := dk_seg dksX1_joins_1 24 rfl rfl
theorem dksX1_joins_3 : cX1_joins.data.toList.drop 70 = dktX1_joins_3 := dk_seg dksX1_joins_2 24 rfl rfl
theorem dksX1_joins_4 : cX1_joins.data.toList.drop 94 = dktX1_joins_4 := dk_seg dksX1_joins_3 24 rfl rfl
theorem dksX1_joins_5 : cX1_joins.data.toList.drop 117 = dktX1_joins_5 := dk_seg dksX1_joins_4 23 rfl rfl
theorem dksX1_joins_6 : cX1_joins.data.toList.drop 141 = dktX1_joins_6 := dk_seg dksX1_joins_5 24 rfl rfl
theorem dksX1_joins_7 : cX1_joins.data.toList.drop 165 = dktX1_joins_7 := dk_seg dksX1_joins_6 24 rfl rfl
theorem dksX1_joins_8 : cX1_joins.data.toList.drop 189 = dktX1_joins_8 := dk_seg dksX1_joins_7 24 rfl rfl
theorem dX1_joins_0 : decode cX1_joins 0 = .ok (.aload_n 0, 1) := dk_42 (dk_at dksX1_joins_0 0 rfl rfl)
theorem dX1_joins_1 : decode cX1_joins 1 = .ok (.iload_n 1, 1) := dk_27 (dk_at dksX1_joins_0 1 rfl rfl)
theorem dX1_joins_2 : decode cX1_joins 2 = .ok (.iload_n 2, 1) := dk_28 (dk_at dksX1_joins_0 2 rfl rfl)
theorem dX1_joins_3 : decode cX1_joins 3 = .ok (.invokestatic 215, 3) := dk_184 0 215 (dk_at dksX1_joins_0 3 rfl rfl)
theorem dX1_joins_6 : decode cX1_joins 6 = .ok (.invokevirtual 52, 3) := dk_182 0 52 (dk_at dksX1_joins_0 6 rfl rfl)
theorem dX1_joins_9 : decode cX1_joins 9 = .ok (.astore_n 3, 1) := dk_78 (dk_at dksX1_joins_0 9 rfl rfl)
theorem dX1_joins_10 : decode cX1_joins 10 = .ok (.aload_n 0, 1) := dk_42 (dk_at dksX1_joins_0 10 rfl rfl)
theorem dX1_joins_11 : decode cX1_joins 11 = .ok (.iload_n 1, 1) := dk_27 (dk_at dksX1_joins_0 11 rfl rfl)
theorem dX1_joins_12 : decode cX1_joins 12 = .ok (.iload_n 2, 1) := dk_28 (dk_at dksX1_joins_0 12 rfl rfl)
theorem dX1_joins_13 : decode cX1_joins 13 = .ok (.invokestatic 161, 3) := dk_184 0 161 (dk_at dksX1_joins_0 13 rfl rfl)
theorem dX1_joins_16 : decode cX1_joins 16 = .ok (.invokevirtual 52, 3) := dk_182 0 52 (dk_at dksX1_joins_0 16 rfl rfl)
theorem dX1_joins_19 : decode cX1_joins 19 = .ok (.astore 4, 2) := dk_58 4 (dk_at dksX1_joins_0 19 rfl rfl)
theorem dX1_joins_21 : decode cX1_joins 21 = .ok (.aload_n 3, 1) := dk_45 (dk_at dksX1_joins_0 21 rfl rfl)
theorem dX1_joins_22 : decode cX1_joins 22 = .ok (.getfield 201, 3) := dk_180 0 201 (dk_at dksX1_joins_1 0 rfl rfl)
theorem dX1_joins_25 : decode cX1_joins 25 = .ok (.aload 4, 2) := dk_25 4 (dk_at dksX1_joins_1 3 rfl rfl)
theorem dX1_joins_27 : decode cX1_joins 27 = .ok (.getfield 201, 3) := dk_180 0 201 (dk_at dksX1_joins_1 5 rfl rfl)
theorem dX1_joins_30 : decode cX1_joins 30 = .ok (.if_icmp .ne 19, 3) := dk_160 0 19 (dk_at dksX1_joins_1 8 rfl rfl)
theorem dX1_joins_33 : decode cX1_joins 33 = .ok (.aload_n 3, 1) := dk_45 (dk_at dksX1_joins_1 11 rfl rfl)
theorem dX1_joins_34 : decode cX1_joins 34 = .ok (.getfield 199, 3) := dk_180 0 199 (dk_at dksX1_joins_1 12 rfl rfl)
theorem dX1_joins_37 : decode cX1_joins 37 = .ok (.aload 4, 2) := dk_25 4 (dk_at dksX1_joins_1 15 rfl rfl)
theorem dX1_joins_39 : decode cX1_joins 39 = .ok (.getfield 199, 3) := dk_180 0 199 (dk_at dksX1_joins_1 17 rfl rfl)
theorem dX1_joins_42 : decode cX1_joins 42 = .ok (.if_icmp .ne 7, 3) := dk_160 0 7 (dk_at dksX1_joins_1 20 rfl rfl)
theorem dX1_joins_45 : decode cX1_joins 45 = .ok (.iconst 1, 1) := dk_4 (dk_at dksX1_joins_1 23 rfl rfl)
theorem dX1_joins_46 : decode cX1_joins 46 = .ok (.goto 4, 3) := dk_167 0 4 (dk_at dksX1_joins_2 0 rfl rfl)
theorem dX1_joins_49 : decode cX1_joins 49 = .ok (.iconst 0, 1) := dk_3 (dk_at dksX1_joins_2 3 rfl rfl)
theorem dX1_joins_50 : decode cX1_joins 50 = .ok (.istore 5, 2) := dk_54 5 (dk_at dksX1_joins_2 4 rfl rfl)
theorem dX1_joins_52 : decode cX1_joins 52 = .ok (.iload 5, 2) := dk_21 5 (dk_at dksX1_joins_2 6 rfl rfl)
theorem dX1_joins_54 : decode cX1_joins 54 = .ok (.ifCond .eq 10, 3) := dk_153 0 10 (dk_at dksX1_joins_2 8 rfl rfl)
theorem dX1_joins_57 : decode cX1_joins 57 = .ok (.aload_n 3, 1) := dk_45 (dk_at dksX1_joins_2 11 rfl rfl)
theorem dX1_joins_58 : decode cX1_joins 58 = .ok (.getfield 199, 3) := dk_180 0 199 (dk_at dksX1_joins_2 12 rfl rfl)
theorem dX1_joins_61 : decode cX1_joins 61 = .ok (.goto 13, 3) := dk_167 0 13 (dk_at dksX1_joins_2 15 rfl rfl)
theorem dX1_joins_64 : decode cX1_joins 64 = .ok (.aload_n 3, 1) := dk_45 (dk_at dksX1_joins_2 18 rfl rfl)
theorem dX1_joins_65 : decode cX1_joins 65 = .ok (.getfield 199, 3) := dk_180 0 199 (dk_at dksX1_joins_2 19 rfl rfl)
theorem dX1_joins_68 : decode cX1_joins 68 = .ok (.aload 4, 2) := dk_25 4 (dk_at dksX1_joins_2 22 rfl rfl)
theorem dX1_joins_70 : decode cX1_joins 70 = .ok (.getfield 199, 3) := dk_180 0 199 (dk_at dksX1_joins_3 0 rfl rfl)
theorem dX1_joins_73 : decode cX1_joins 73 = .ok (.iadd, 1) := dk_96 (dk_at dksX1_joins_3 3 rfl rfl)
theorem dX1_joins_74 : decode cX1_joins 74 = .ok (.istore 6, 2) := dk_54 6 (dk_at dksX1_joins_3 4 rfl rfl)
theorem dX1_joins_76 : decode cX1_joins 76 = .ok (.iload 5, 2) := dk_21 5 (dk_at dksX1_joins_3 6 rfl rfl)
theorem dX1_joins_78 : decode cX1_joins 78 = .ok (.ifCond .eq 16, 3) := dk_153 0 16 (dk_at dksX1_joins_3 8 rfl rfl)
theorem dX1_joins_81 : decode cX1_joins 81 = .ok (.aload_n 3, 1) := dk_45 (dk_at dksX1_joins_3 11 rfl rfl)
theorem dX1_joins_82 : decode cX1_joins 82 = .ok (.getfield 200, 3) := dk_180 0 200 (dk_at dksX1_joins_3 12 rfl rfl)
theorem dX1_joins_85 : decode cX1_joins 85 = .ok (.aload 4, 2) := dk_25 4 (dk_at dksX1_joins_3 15 rfl rfl)
theorem dX1_joins_87 : decode cX1_joins 87 = .ok (.getfield 200, 3) := dk_180 0 200 (dk_at dksX1_joins_3 17 rfl rfl)
theorem dX1_joins_90 : decode cX1_joins 90 = .ok (.iadd, 1) := dk_96 (dk_at dksX1_joins_3 20 rfl rfl)
theorem dX1_joins_91 : decode cX1_joins 91 = .ok (.goto 7, 3) := dk_167 0 7 (dk_at dksX1_joins_3 21 rfl rfl)
theorem dX1_joins_94 : decode cX1_joins 94 = .ok (.aload_n 3, 1) := dk_45 (dk_at dksX1_joins_4 0 rfl rfl)
theorem dX1_joins_95 : decode cX1_joins 95 = .ok (.getfield 200, 3) := dk_180 0 200 (dk_at dksX1_joins_4 1 rfl rfl)
theorem dX1_joins_98 : decode cX1_joins 98 = .ok (.istore 7, 2) := dk_54 7 (dk_at dksX1_joins_4 4 rfl rfl)
theorem dX1_joins_100 : decode cX1_joins 100 = .ok (.new 57, 3) := dk_187 0 57 (dk_at dksX1_joins_4 6 rfl rfl)
theorem dX1_joins_103 : decode cX1_joins 103 = .ok (.dup, 1) := dk_89 (dk_at dksX1_joins_4 9 rfl rfl)
theorem dX1_joins_104 : decode cX1_joins 104 = .ok (.aload_n 3, 1) := dk_45 (dk_at dksX1_joins_4 10 rfl rfl)
theorem dX1_joins_105 : decode cX1_joins 105 = .ok (.getfield 201, 3) := dk_180 0 201 (dk_at dksX1_joins_4 11 rfl rfl)
theorem dX1_joins_108 : decode cX1_joins 108 = .ok (.aload 4, 2) := dk_25 4 (dk_at dksX1_joins_4 14 rfl rfl)
theorem dX1_joins_110 : decode cX1_joins 110 = .ok (.getfield 201, 3) := dk_180 0 201 (dk_at dksX1_joins_4 16 rfl rfl)
theorem dX1_joins_113 : decode cX1_joins 113 = .ok (.invokestatic 215, 3) := dk_184 0 215 (dk_at dksX1_joins_4 19 rfl rfl)
theorem dX1_joins_116 : decode cX1_joins 116 = .ok (.aload_n 3, 1) := dk_45 (dk_at dksX1_joins_4 22 rfl rfl)
theorem dX1_joins_117 : decode cX1_joins 117 = .ok (.getfield 202, 3) := dk_180 0 202 (dk_at dksX1_joins_5 0 rfl rfl)
theorem dX1_joins_120 : decode cX1_joins 120 = .ok (.aload 4, 2) := dk_25 4 (dk_at dksX1_joins_5 3 rfl rfl)
theorem dX1_joins_122 : decode cX1_joins 122 = .ok (.getfield 202, 3) := dk_180 0 202 (dk_at dksX1_joins_5 5 rfl rfl)
theorem dX1_joins_125 : decode cX1_joins 125 = .ok (.invokestatic 215, 3) := dk_184 0 215 (dk_at dksX1_joins_5 8 rfl rfl)
theorem dX1_joins_128 : decode cX1_joins 128 = .ok (.iload 6, 2) := dk_21 6 (dk_at dksX1_joins_5 11 rfl rfl)
theorem dX1_joins_130 : decode cX1_joins 130 = .ok (.iload 7, 2) := dk_21 7 (dk_at dksX1_joins_5 13 rfl rfl)
theorem dX1_joins_132 : decode cX1_joins 132 = .ok (.aload_n 0, 1) := dk_42 (dk_at dksX1_joins_5 15 rfl rfl)
theorem dX1_joins_133 : decode cX1_joins 133 = .ok (.getfield 41, 3) := dk_180 0 41 (dk_at dksX1_joins_5 16 rfl rfl)
theorem dX1_joins_136 : decode cX1_joins 136 = .ok (.iload_n 1, 1) := dk_27 (dk_at dksX1_joins_5 19 rfl rfl)
theorem dX1_joins_137 : decode cX1_joins 137 = .ok (.iload_n 2, 1) := dk_28 (dk_at dksX1_joins_5 20 rfl rfl)
theorem dX1_joins_138 : decode cX1_joins 138 = .ok (.invokestatic 215, 3) := dk_184 0 215 (dk_at dksX1_joins_5 21 rfl rfl)
theorem dX1_joins_141 : decode cX1_joins 141 = .ok (.iload_n 1, 1) := dk_27 (dk_at dksX1_joins_6 0 rfl rfl)
theorem dX1_joins_142 : decode cX1_joins 142 = .ok (.iload_n 2, 1) := dk_28 (dk_at dksX1_joins_6 1 rfl rfl)
theorem dX1_joins_143 : decode cX1_joins 143 = .ok (.invokestatic 161, 3) := dk_184 0 161 (dk_at dksX1_joins_6 2 rfl rfl)
theorem dX1_joins_146 : decode cX1_joins 146 = .ok (.invokespecial 87, 3) := dk_183 0 87 (dk_at dksX1_joins_6 5 rfl rfl)
theorem dX1_joins_149 : decode cX1_joins 149 = .ok (.astore 8, 2) := dk_58 8 (dk_at dksX1_joins_6 8 rfl rfl)
theorem dX1_joins_151 : decode cX1_joins 151 = .ok (.aload_n 0, 1) := dk_42 (dk_at dksX1_joins_6 10 rfl rfl)
theorem dX1_joins_152 : decode cX1_joins 152 = .ok (.aload 8, 2) := dk_25 8 (dk_at dksX1_joins_6 11 rfl rfl)
theorem dX1_joins_154 : decode cX1_joins 154 = .ok (.aload_n 0, 1) := dk_42 (dk_at dksX1_joins_6 13 rfl rfl)
theorem dX1_joins_155 : decode cX1_joins 155 = .ok (.iload_n 1, 1) := dk_27 (dk_at dksX1_joins_6 14 rfl rfl)
theorem dX1_joins_156 : decode cX1_joins 156 = .ok (.invokevirtual 106, 3) := dk_182 0 106 (dk_at dksX1_joins_6 15 rfl rfl)
theorem dX1_joins_159 : decode cX1_joins 159 = .ok (.getfield 195, 3) := dk_180 0 195 (dk_at dksX1_joins_6 18 rfl rfl)
theorem dX1_joins_162 : decode cX1_joins 162 = .ok (.invokevirtual 203, 3) := dk_182 0 203 (dk_at dksX1_joins_6 21 rfl rfl)
theorem dX1_joins_165 : decode cX1_joins 165 = .ok (.checkcast 204, 3) := dk_192 0 204 (dk_at dksX1_joins_7 0 rfl rfl)
theorem dX1_joins_168 : decode cX1_joins 168 = .ok (.invokevirtual 90, 3) := dk_182 0 90 (dk_at dksX1_joins_7 3 rfl rfl)
theorem dX1_joins_171 : decode cX1_joins 171 = .ok (.istore 9, 2) := dk_54 9 (dk_at dksX1_joins_7 6 rfl rfl)
theorem dX1_joins_173 : decode cX1_joins 173 = .ok (.aload_n 0, 1) := dk_42 (dk_at dksX1_joins_7 8 rfl rfl)
theorem dX1_joins_174 : decode cX1_joins 174 = .ok (.iload_n 1, 1) := dk_27 (dk_at dksX1_joins_7 9 rfl rfl)
theorem dX1_joins_175 : decode cX1_joins 175 = .ok (.iload 9, 2) := dk_21 9 (dk_at dksX1_joins_7 10 rfl rfl)
theorem dX1_joins_177 : decode cX1_joins 177 = .ok (.invokevirtual 208, 3) := dk_182 0 208 (dk_at dksX1_joins_7 12 rfl rfl)
theorem dX1_joins_180 : decode cX1_joins 180 = .ok (.aload_n 0, 1) := dk_42 (dk_at dksX1_joins_7 15 rfl rfl)
theorem dX1_joins_181 : decode cX1_joins 181 = .ok (.iload_n 2, 1) := dk_28 (dk_at dksX1_joins_7 16 rfl rfl)
theorem dX1_joins_182 : decode cX1_joins 182 = .ok (.iload 9, 2) := dk_21 9 (dk_at dksX1_joins_7 17 rfl rfl)
theorem dX1_joins_184 : decode cX1_joins 184 = .ok (.invokevirtual 208, 3) := dk_182 0 208 (dk_at dksX1_joins_7 19 rfl rfl)
theorem dX1_joins_187 : decode cX1_joins 187 = .ok (.aload_n 0, 1) := dk_42 (dk_at dksX1_joins_7 22 rfl rfl)
theorem dX1_joins_188 : decode cX1_joins 188 = .ok (.iload_n 1, 1) := dk_27 (dk_at dksX1_joins_7 23 rfl rfl)
theorem dX1_joins_189 : decode cX1_joins 189 = .ok (.invokevirtual 212, 3) := dk_182 0 212 (dk_at dksX1_joins_8 0 rfl rfl)
theorem dX1_joins_192 : decode cX1_joins 192 = .ok (.aload_n 0, 1) := dk_42 (dk_at dksX1_joins_8 3 rfl rfl)
theorem dX1_joins_193 : decode cX1_joins 193 = .ok (.iload_n 2, 1) := dk_28 (dk_at dksX1_joins_8 4 rfl rfl)
theorem dX1_joins_194 : decode cX1_joins 194 = .ok (.invokevirtual 212, 3) := dk_182 0 212 (dk_at dksX1_joins_8 5 rfl rfl)
theorem dX1_joins_197 : decode cX1_joins 197 = .ok (.iload 9, 2) := dk_21 9 (dk_at dksX1_joins_8 8 rfl rfl)
theorem dX1_joins_199 : decode cX1_joins 199 = .ok (.ireturn, 1) := dk_172 (dk_at dksX1_joins_8 10 rfl rfl)
abbrev cX1_needsDeed : ByteArray := prog_9_method_10_code
def yX1_needsDeed : MethodName := ⟨RX1, "needsDeed", "(I)Z"⟩
def dkwX1_needsDeed_0 : List UInt8 := [42, 27, 182, 0, 106, 180, 0, 101, 42, 180, 0, 41, 159, 0, 7, 4, 167, 0, 4, 3, 172]
abbrev dktX1_needsDeed_0 : List UInt8 := dkwX1_needsDeed_0 ++ []
theorem dksX1_needsDeed_0 : cX1_needsDeed.data.toList.drop 0 = dktX1_needsDeed_0 := by decide +kernel
theorem dX1_needsDeed_0 : decode cX1_needsDeed 0 = .ok (.aload_n 0, 1) := dk_42 (dk_at dksX1_needsDeed_0 0 rfl rfl)
theorem dX1_needsDeed_1 : decode cX1_needsDeed 1 = .ok (.iload_n 1, 1) := dk_27 (dk_at dksX1_needsDeed_0 1 rfl rfl)
theorem dX1_needsDeed_2 : decode cX1_needsDeed 2 = .ok (.invokevirtual 106, 3) := dk_182 0 106 (dk_at dksX1_needsDeed_0 2 rfl rfl)
theorem dX1_needsDeed_5 : decode cX1_needsDeed 5 = .ok (.getfield 101, 3) := dk_180 0 101 (dk_at dksX1_needsDeed_0 5 rfl rfl)
theorem dX1_needsDeed_8 : decode cX1_needsDeed 8 = .ok (.aload_n 0, 1) := dk_42 (dk_at dksX1_needsDeed_0 8 rfl rfl)
theorem dX1_needsDeed_9 : decode cX1_needsDeed 9 = .ok (.getfield 41, 3) := dk_180 0 41 (dk_at dksX1_needsDeed_0 9 rfl rfl)
theorem dX1_needsDeed_12 : decode cX1_needsDeed 12 = .ok (.if_icmp .eq 7, 3) := dk_159 0 7 (dk_at dksX1_needsDeed_0 12 rfl rfl)
theorem dX1_needsDeed_15 : decode cX1_needsDeed 15 = .ok (.iconst 1, 1) := dk_4 (dk_at dksX1_needsDeed_0 15 rfl rfl)
theorem dX1_needsDeed_16 : decode cX1_needsDeed 16 = .ok (.goto 4, 3) := dk_167 0 4 (dk_at dksX1_needsDeed_0 16 rfl rfl)
theorem dX1_needsDeed_19 : decode cX1_needsDeed 19 = .ok (.iconst 0, 1) := dk_3 (dk_at dksX1_needsDeed_0 19 rfl rfl)
theorem dX1_needsDeed_20 : decode cX1_needsDeed 20 = .ok (.ireturn, 1) := dk_172 (dk_at dksX1_needsDeed_0 20 rfl rfl)
abbrev cX1_liveAt : ByteArray := prog_9_method_12_code
def yX1_liveAt : MethodName := ⟨RX1, "liveAt", "(II)I"⟩
def dkwX1_liveAt_1 : List UInt8 := [154, 0, 9, 132, 3, 1, 167, 255, 229, 29, 172]
abbrev dktX1_liveAt_1 : List UInt8 := dkwX1_liveAt_1 ++ []
def dkwX1_liveAt_0 : List UInt8 := [3, 62, 42, 29, 182, 0, 52, 182, 0, 118, 153, 0, 16, 42, 29, 182, 0, 52, 27, 28, 182, 0, 122]
abbrev dktX1_liveAt_0 : List UInt8 := dkwX1_liveAt_0 ++ dktX1_liveAt_1
theorem dksX1_liveAt_0 : cX1_liveAt.data.toList.drop 0 = dktX1_liveAt_0 := by decide +kernel
theorem dksX1_liveAt_1 : cX1_liveAt.data.toList.drop 23 = dktX1_liveAt_1 := dk_seg dksX1_liveAt_0 23 rfl rfl
theorem dX1_liveAt_0 : decode cX1_liveAt 0 = .ok (.iconst 0, 1) := dk_3 (dk_at dksX1_liveAt_0 0 rfl rfl)
theorem dX1_liveAt_1 : decode cX1_liveAt 1 = .ok (.istore_n 3, 1) := dk_62 (dk_at dksX1_liveAt_0 1 rfl rfl)
theorem dX1_liveAt_2 : decode cX1_liveAt 2 = .ok (.aload_n 0, 1) := dk_42 (dk_at dksX1_liveAt_0 2 rfl rfl)
theorem dX1_liveAt_3 : decode cX1_liveAt 3 = .ok (.iload_n 3, 1) := dk_29 (dk_at dksX1_liveAt_0 3 rfl rfl)
theorem dX1_liveAt_4 : decode cX1_liveAt 4 = .ok (.invokevirtual 52, 3) := dk_182 0 52 (dk_at dksX1_liveAt_0 4 rfl rfl)
theorem dX1_liveAt_7 : decode cX1_liveAt 7 = .ok (.invokevirtual 118, 3) := dk_182 0 118 (dk_at dksX1_liveAt_0 7 rfl rfl)
theorem dX1_liveAt_10 : decode cX1_liveAt 10 = .ok (.ifCond .eq 16, 3) := dk_153 0 16 (dk_at dksX1_liveAt_0 10 rfl rfl)
theorem dX1_liveAt_13 : decode cX1_liveAt 13 = .ok (.aload_n 0, 1) := dk_42 (dk_at dksX1_liveAt_0 13 rfl rfl)
theorem dX1_liveAt_14 : decode cX1_liveAt 14 = .ok (.iload_n 3, 1) := dk_29 (dk_at dksX1_liveAt_0 14 rfl rfl)
theorem dX1_liveAt_15 : decode cX1_liveAt 15 = .ok (.invokevirtual 52, 3) := dk_182 0 52 (dk_at dksX1_liveAt_0 15 rfl rfl)
theorem dX1_liveAt_18 : decode cX1_liveAt 18 = .ok (.iload_n 1, 1) := dk_27 (dk_at dksX1_liveAt_0 18 rfl rfl)
theorem dX1_liveAt_19 : decode cX1_liveAt 19 = .ok (.iload_n 2, 1) := dk_28 (dk_at dksX1_liveAt_0 19 rfl rfl)
theorem dX1_liveAt_20 : decode cX1_liveAt 20 = .ok (.invokevirtual 122, 3) := dk_182 0 122 (dk_at dksX1_liveAt_0 20 rfl rfl)
theorem dX1_liveAt_23 : decode cX1_liveAt 23 = .ok (.ifCond .ne 9, 3) := dk_154 0 9 (dk_at dksX1_liveAt_1 0 rfl rfl)
theorem dX1_liveAt_26 : decode cX1_liveAt 26 = .ok (.iinc 3 1, 3) := dk_132 3 1 (dk_at dksX1_liveAt_1 3 rfl rfl)
theorem dX1_liveAt_29 : decode cX1_liveAt 29 = .ok (.goto (-27), 3) := dk_167 255 229 (dk_at dksX1_liveAt_1 6 rfl rfl)
theorem dX1_liveAt_32 : decode cX1_liveAt 32 = .ok (.iload_n 3, 1) := dk_29 (dk_at dksX1_liveAt_1 9 rfl rfl)
theorem dX1_liveAt_33 : decode cX1_liveAt 33 = .ok (.ireturn, 1) := dk_172 (dk_at dksX1_liveAt_1 10 rfl rfl)
abbrev cX1_cover : ByteArray := prog_9_method_17_code
def yX1_cover : MethodName := ⟨RX1, "cover", "(LLandFolio$Burden;I)I"⟩
def dkwX1_cover_2 : List UInt8 := [43, 180, 0, 145, 21, 4, 4, 96, 182, 0, 148, 54, 4, 167, 255, 207, 29, 172]
abbrev dktX1_cover_2 : List UInt8 := dkwX1_cover_2 ++ []
def dkwX1_cover_1 : List UInt8 := [3, 167, 0, 21, 3, 42, 21, 4, 182, 0, 154, 42, 43, 21, 4, 182, 0, 157, 100, 184, 0, 161, 96, 62]
abbrev dktX1_cover_1 : List UInt8 := dkwX1_cover_1 ++ dktX1_cover_2
def dkwX1_cover_0 : List UInt8 := [3, 62, 43, 180, 0, 145, 3, 182, 0, 148, 54, 4, 21, 4, 155, 0, 50, 29, 21, 4, 28, 160, 0, 7]
abbrev dktX1_cover_0 : List UInt8 := dkwX1_cover_0 ++ dktX1_cover_1
theorem dksX1_cover_0 : cX1_cover.data.toList.drop 0 = dktX1_cover_0 := by decide +kernel
theorem dksX1_cover_1 : cX1_cover.data.toList.drop 24 = dktX1_cover_1 := dk_seg dksX1_cover_0 24 rfl rfl
theorem dksX1_cover_2 : cX1_cover.data.toList.drop 48 = dktX1_cover_2 := dk_seg dksX1_cover_1 24 rfl rfl
theorem dX1_cover_0 : decode cX1_cover 0 = .ok (.iconst 0, 1) := dk_3 (dk_at dksX1_cover_0 0 rfl rfl)
theorem dX1_cover_1 : decode cX1_cover 1 = .ok (.istore_n 3, 1) := dk_62 (dk_at dksX1_cover_0 1 rfl rfl)
theorem dX1_cover_2 : decode cX1_cover 2 = .ok (.aload_n 1, 1) := dk_43 (dk_at dksX1_cover_0 2 rfl rfl)
theorem dX1_cover_3 : decode cX1_cover 3 = .ok (.getfield 145, 3) := dk_180 0 145 (dk_at dksX1_cover_0 3 rfl rfl)
theorem dX1_cover_6 : decode cX1_cover 6 = .ok (.iconst 0, 1) := dk_3 (dk_at dksX1_cover_0 6 rfl rfl)
theorem dX1_cover_7 : decode cX1_cover 7 = .ok (.invokevirtual 148, 3) := dk_182 0 148 (dk_at dksX1_cover_0 7 rfl rfl)
theorem dX1_cover_10 : decode cX1_cover 10 = .ok (.istore 4, 2) := dk_54 4 (dk_at dksX1_cover_0 10 rfl rfl)
theorem dX1_cover_12 : decode cX1_cover 12 = .ok (.iload 4, 2) := dk_21 4 (dk_at dksX1_cover_0 12 rfl rfl)
theorem dX1_cover_14 : decode cX1_cover 14 = .ok (.ifCond .lt 50, 3) := dk_155 0 50 (dk_at dksX1_cover_0 14 rfl rfl)
theorem dX1_cover_17 : decode cX1_cover 17 = .ok (.iload_n 3, 1) := dk_29 (dk_at dksX1_cover_0 17 rfl rfl)
theorem dX1_cover_18 : decode cX1_cover 18 = .ok (.iload 4, 2) := dk_21 4 (dk_at dksX1_cover_0 18 rfl rfl)
theorem dX1_cover_20 : decode cX1_cover 20 = .ok (.iload_n 2, 1) := dk_28 (dk_at dksX1_cover_0 20 rfl rfl)
theorem dX1_cover_21 : decode cX1_cover 21 = .ok (.if_icmp .ne 7, 3) := dk_160 0 7 (dk_at dksX1_cover_0 21 rfl rfl)
theorem dX1_cover_24 : decode cX1_cover 24 = .ok (.iconst 0, 1) := dk_3 (dk_at dksX1_cover_1 0 rfl rfl)
theorem dX1_cover_25 : decode cX1_cover 25 = .ok (.goto 21, 3) := dk_167 0 21 (dk_at dksX1_cover_1 1 rfl rfl)
theorem dX1_cover_28 : decode cX1_cover 28 = .ok (.iconst 0, 1) := dk_3 (dk_at dksX1_cover_1 4 rfl rfl)
theorem dX1_cover_29 : decode cX1_cover 29 = .ok (.aload_n 0, 1) := dk_42 (dk_at dksX1_cover_1 5 rfl rfl)
theorem dX1_cover_30 : decode cX1_cover 30 = .ok (.iload 4, 2) := dk_21 4 (dk_at dksX1_cover_1 6 rfl rfl)
theorem dX1_cover_32 : decode cX1_cover 32 = .ok (.invokevirtual 154, 3) := dk_182 0 154 (dk_at dksX1_cover_1 8 rfl rfl)
theorem dX1_cover_35 : decode cX1_cover 35 = .ok (.aload_n 0, 1) := dk_42 (dk_at dksX1_cover_1 11 rfl rfl)
theorem dX1_cover_36 : decode cX1_cover 36 = .ok (.aload_n 1, 1) := dk_43 (dk_at dksX1_cover_1 12 rfl rfl)
theorem dX1_cover_37 : decode cX1_cover 37 = .ok (.iload 4, 2) := dk_21 4 (dk_at dksX1_cover_1 13 rfl rfl)
theorem dX1_cover_39 : decode cX1_cover 39 = .ok (.invokevirtual 157, 3) := dk_182 0 157 (dk_at dksX1_cover_1 15 rfl rfl)
theorem dX1_cover_42 : decode cX1_cover 42 = .ok (.isub, 1) := dk_100 (dk_at dksX1_cover_1 18 rfl rfl)
theorem dX1_cover_43 : decode cX1_cover 43 = .ok (.invokestatic 161, 3) := dk_184 0 161 (dk_at dksX1_cover_1 19 rfl rfl)
theorem dX1_cover_46 : decode cX1_cover 46 = .ok (.iadd, 1) := dk_96 (dk_at dksX1_cover_1 22 rfl rfl)
theorem dX1_cover_47 : decode cX1_cover 47 = .ok (.istore_n 3, 1) := dk_62 (dk_at dksX1_cover_1 23 rfl rfl)
theorem dX1_cover_48 : decode cX1_cover 48 = .ok (.aload_n 1, 1) := dk_43 (dk_at dksX1_cover_2 0 rfl rfl)
theorem dX1_cover_49 : decode cX1_cover 49 = .ok (.getfield 145, 3) := dk_180 0 145 (dk_at dksX1_cover_2 1 rfl rfl)
theorem dX1_cover_52 : decode cX1_cover 52 = .ok (.iload 4, 2) := dk_21 4 (dk_at dksX1_cover_2 4 rfl rfl)
theorem dX1_cover_54 : decode cX1_cover 54 = .ok (.iconst 1, 1) := dk_4 (dk_at dksX1_cover_2 6 rfl rfl)
theorem dX1_cover_55 : decode cX1_cover 55 = .ok (.iadd, 1) := dk_96 (dk_at dksX1_cover_2 7 rfl rfl)
theorem dX1_cover_56 : decode cX1_cover 56 = .ok (.invokevirtual 148, 3) := dk_182 0 148 (dk_at dksX1_cover_2 8 rfl rfl)
theorem dX1_cover_59 : decode cX1_cover 59 = .ok (.istore 4, 2) := dk_54 4 (dk_at dksX1_cover_2 11 rfl rfl)
theorem dX1_cover_61 : decode cX1_cover 61 = .ok (.goto (-49), 3) := dk_167 255 207 (dk_at dksX1_cover_2 13 rfl rfl)
theorem dX1_cover_64 : decode cX1_cover 64 = .ok (.iload_n 3, 1) := dk_29 (dk_at dksX1_cover_2 16 rfl rfl)
theorem dX1_cover_65 : decode cX1_cover 65 = .ok (.ireturn, 1) := dk_172 (dk_at dksX1_cover_2 17 rfl rfl)
abbrev cX1_value : ByteArray := prog_9_method_14_code
def yX1_value : MethodName := ⟨RX1, "value", "(I)I"⟩
def dkwX1_value_0 : List UInt8 := [42, 27, 182, 0, 52, 182, 0, 130, 42, 180, 0, 38, 104, 172]
abbrev dktX1_value_0 : List UInt8 := dkwX1_value_0 ++ []
theorem dksX1_value_0 : cX1_value.data.toList.drop 0 = dktX1_value_0 := by decide +kernel
theorem dX1_value_0 : decode cX1_value 0 = .ok (.aload_n 0, 1) := dk_42 (dk_at dksX1_value_0 0 rfl rfl)
theorem dX1_value_1 : decode cX1_value 1 = .ok (.iload_n 1, 1) := dk_27 (dk_at dksX1_value_0 1 rfl rfl)
theorem dX1_value_2 : decode cX1_value 2 = .ok (.invokevirtual 52, 3) := dk_182 0 52 (dk_at dksX1_value_0 2 rfl rfl)
theorem dX1_value_5 : decode cX1_value 5 = .ok (.invokevirtual 130, 3) := dk_182 0 130 (dk_at dksX1_value_0 5 rfl rfl)
theorem dX1_value_8 : decode cX1_value 8 = .ok (.aload_n 0, 1) := dk_42 (dk_at dksX1_value_0 8 rfl rfl)
theorem dX1_value_9 : decode cX1_value 9 = .ok (.getfield 38, 3) := dk_180 0 38 (dk_at dksX1_value_0 9 rfl rfl)
theorem dX1_value_12 : decode cX1_value 12 = .ok (.imul, 1) := dk_104 (dk_at dksX1_value_0 12 rfl rfl)
theorem dX1_value_13 : decode cX1_value 13 = .ok (.ireturn, 1) := dk_172 (dk_at dksX1_value_0 13 rfl rfl)
abbrev cX1_ahead : ByteArray := prog_9_method_16_code
def yX1_ahead : MethodName := ⟨RX1, "ahead", "(LLandFolio$Burden;I)I"⟩
def dkwX1_ahead_3 : List UInt8 := [96, 62, 132, 4, 1, 167, 255, 185, 29, 172]
abbrev dktX1_ahead_3 : List UInt8 := dkwX1_ahead_3 ++ []
def dkwX1_ahead_2 : List UInt8 := [153, 0, 23, 25, 5, 180, 0, 142, 43, 180, 0, 142, 162, 0, 11, 25, 5, 180, 0, 139, 167, 0, 4, 3]
abbrev dktX1_ahead_2 : List UInt8 := dkwX1_ahead_2 ++ dktX1_ahead_3
def dkwX1_ahead_1 : List UInt8 := [58, 6, 25, 6, 193, 0, 133, 153, 0, 39, 25, 6, 192, 0, 133, 58, 5, 25, 5, 28, 182, 0, 135]
abbrev dktX1_ahead_1 : List UInt8 := dkwX1_ahead_1 ++ dktX1_ahead_2
def dkwX1_ahead_0 : List UInt8 := [3, 62, 3, 54, 4, 21, 4, 42, 180, 0, 24, 182, 0, 48, 162, 0, 65, 29, 42, 21, 4, 182, 0, 66]
abbrev dktX1_ahead_0 : List UInt8 := dkwX1_ahead_0 ++ dktX1_ahead_1
theorem dksX1_ahead_0 : cX1_ahead.data.toList.drop 0 = dktX1_ahead_0 := by decide +kernel
theorem dksX1_ahead_1 : cX1_ahead.data.toList.drop 24 = dktX1_ahead_1 := dk_seg dksX1_ahead_0 24 rfl rfl
theorem dksX1_ahead_2 : cX1_ahead.data.toList.drop 47 = dktX1_ahead_2 := dk_seg dksX1_ahead_1 23 rfl rfl
theorem dksX1_ahead_3 : cX1_ahead.data.toList.drop 71 = dktX1_ahead_3 := dk_seg dksX1_ahead_2 24 rfl rfl
theorem dX1_ahead_0 : decode cX1_ahead 0 = .ok (.iconst 0, 1) := dk_3 (dk_at dksX1_ahead_0 0 rfl rfl)
theorem dX1_ahead_1 : decode cX1_ahead 1 = .ok (.istore_n 3, 1) := dk_62 (dk_at dksX1_ahead_0 1 rfl rfl)
theorem dX1_ahead_2 : decode cX1_ahead 2 = .ok (.iconst 0, 1) := dk_3 (dk_at dksX1_ahead_0 2 rfl rfl)
theorem dX1_ahead_3 : decode cX1_ahead 3 = .ok (.istore 4, 2) := dk_54 4 (dk_at dksX1_ahead_0 3 rfl rfl)
theorem dX1_ahead_5 : decode cX1_ahead 5 = .ok (.iload 4, 2) := dk_21 4 (dk_at dksX1_ahead_0 5 rfl rfl)
theorem dX1_ahead_7 : decode cX1_ahead 7 = .ok (.aload_n 0, 1) := dk_42 (dk_at dksX1_ahead_0 7 rfl rfl)
theorem dX1_ahead_8 : decode cX1_ahead 8 = .ok (.getfield 24, 3) := dk_180 0 24 (dk_at dksX1_ahead_0 8 rfl rfl)
theorem dX1_ahead_11 : decode cX1_ahead 11 = .ok (.invokevirtual 48, 3) := dk_182 0 48 (dk_at dksX1_ahead_0 11 rfl rfl)
theorem dX1_ahead_14 : decode cX1_ahead 14 = .ok (.if_icmp .ge 65, 3) := dk_162 0 65 (dk_at dksX1_ahead_0 14 rfl rfl)
theorem dX1_ahead_17 : decode cX1_ahead 17 = .ok (.iload_n 3, 1) := dk_29 (dk_at dksX1_ahead_0 17 rfl rfl)
theorem dX1_ahead_18 : decode cX1_ahead 18 = .ok (.aload_n 0, 1) := dk_42 (dk_at dksX1_ahead_0 18 rfl rfl)
theorem dX1_ahead_19 : decode cX1_ahead 19 = .ok (.iload 4, 2) := dk_21 4 (dk_at dksX1_ahead_0 19 rfl rfl)
theorem dX1_ahead_21 : decode cX1_ahead 21 = .ok (.invokevirtual 66, 3) := dk_182 0 66 (dk_at dksX1_ahead_0 21 rfl rfl)
theorem dX1_ahead_24 : decode cX1_ahead 24 = .ok (.astore 6, 2) := dk_58 6 (dk_at dksX1_ahead_1 0 rfl rfl)
theorem dX1_ahead_26 : decode cX1_ahead 26 = .ok (.aload 6, 2) := dk_25 6 (dk_at dksX1_ahead_1 2 rfl rfl)
theorem dX1_ahead_28 : decode cX1_ahead 28 = .ok (.instanceof 133, 3) := dk_193 0 133 (dk_at dksX1_ahead_1 4 rfl rfl)
theorem dX1_ahead_31 : decode cX1_ahead 31 = .ok (.ifCond .eq 39, 3) := dk_153 0 39 (dk_at dksX1_ahead_1 7 rfl rfl)
theorem dX1_ahead_34 : decode cX1_ahead 34 = .ok (.aload 6, 2) := dk_25 6 (dk_at dksX1_ahead_1 10 rfl rfl)
theorem dX1_ahead_36 : decode cX1_ahead 36 = .ok (.checkcast 133, 3) := dk_192 0 133 (dk_at dksX1_ahead_1 12 rfl rfl)
theorem dX1_ahead_39 : decode cX1_ahead 39 = .ok (.astore 5, 2) := dk_58 5 (dk_at dksX1_ahead_1 15 rfl rfl)
theorem dX1_ahead_41 : decode cX1_ahead 41 = .ok (.aload 5, 2) := dk_25 5 (dk_at dksX1_ahead_1 17 rfl rfl)
theorem dX1_ahead_43 : decode cX1_ahead 43 = .ok (.iload_n 2, 1) := dk_28 (dk_at dksX1_ahead_1 19 rfl rfl)
theorem dX1_ahead_44 : decode cX1_ahead 44 = .ok (.invokevirtual 135, 3) := dk_182 0 135 (dk_at dksX1_ahead_1 20 rfl rfl)
theorem dX1_ahead_47 : decode cX1_ahead 47 = .ok (.ifCond .eq 23, 3) := dk_153 0 23 (dk_at dksX1_ahead_2 0 rfl rfl)
theorem dX1_ahead_50 : decode cX1_ahead 50 = .ok (.aload 5, 2) := dk_25 5 (dk_at dksX1_ahead_2 3 rfl rfl)
theorem dX1_ahead_52 : decode cX1_ahead 52 = .ok (.getfield 142, 3) := dk_180 0 142 (dk_at dksX1_ahead_2 5 rfl rfl)
theorem dX1_ahead_55 : decode cX1_ahead 55 = .ok (.aload_n 1, 1) := dk_43 (dk_at dksX1_ahead_2 8 rfl rfl)
theorem dX1_ahead_56 : decode cX1_ahead 56 = .ok (.getfield 142, 3) := dk_180 0 142 (dk_at dksX1_ahead_2 9 rfl rfl)
theorem dX1_ahead_59 : decode cX1_ahead 59 = .ok (.if_icmp .ge 11, 3) := dk_162 0 11 (dk_at dksX1_ahead_2 12 rfl rfl)
theorem dX1_ahead_62 : decode cX1_ahead 62 = .ok (.aload 5, 2) := dk_25 5 (dk_at dksX1_ahead_2 15 rfl rfl)
theorem dX1_ahead_64 : decode cX1_ahead 64 = .ok (.getfield 139, 3) := dk_180 0 139 (dk_at dksX1_ahead_2 17 rfl rfl)
theorem dX1_ahead_67 : decode cX1_ahead 67 = .ok (.goto 4, 3) := dk_167 0 4 (dk_at dksX1_ahead_2 20 rfl rfl)
theorem dX1_ahead_70 : decode cX1_ahead 70 = .ok (.iconst 0, 1) := dk_3 (dk_at dksX1_ahead_2 23 rfl rfl)
theorem dX1_ahead_71 : decode cX1_ahead 71 = .ok (.iadd, 1) := dk_96 (dk_at dksX1_ahead_3 0 rfl rfl)
theorem dX1_ahead_72 : decode cX1_ahead 72 = .ok (.istore_n 3, 1) := dk_62 (dk_at dksX1_ahead_3 1 rfl rfl)
theorem dX1_ahead_73 : decode cX1_ahead 73 = .ok (.iinc 4 1, 3) := dk_132 4 1 (dk_at dksX1_ahead_3 2 rfl rfl)
theorem dX1_ahead_76 : decode cX1_ahead 76 = .ok (.goto (-71), 3) := dk_167 255 185 (dk_at dksX1_ahead_3 5 rfl rfl)
theorem dX1_ahead_79 : decode cX1_ahead 79 = .ok (.iload_n 3, 1) := dk_29 (dk_at dksX1_ahead_3 8 rfl rfl)
theorem dX1_ahead_80 : decode cX1_ahead 80 = .ok (.ireturn, 1) := dk_172 (dk_at dksX1_ahead_3 9 rfl rfl)
abbrev cX1_unsf : ByteArray := prog_9_method_18_code
def yX1_unsf : MethodName := zk_nmOf 1601
def dkwX1_unsf_3 : List UInt8 := [167, 255, 192, 27, 172]
abbrev dktX1_unsf_3 : List UInt8 := dkwX1_unsf_3 ++ []
def dkwX1_unsf_2 : List UInt8 := [16, 254, 182, 0, 170, 45, 180, 0, 139, 162, 0, 7, 4, 167, 0, 4, 3, 96, 60, 132, 2, 1]
abbrev dktX1_unsf_2 : List UInt8 := dkwX1_unsf_2 ++ dktX1_unsf_3
def dkwX1_unsf_1 : List UInt8 := [25, 4, 193, 0, 133, 153, 0, 34, 25, 4, 192, 0, 133, 78, 45, 182, 0, 167, 154, 0, 21, 42, 45]
abbrev dktX1_unsf_1 : List UInt8 := dkwX1_unsf_1 ++ dktX1_unsf_2
def dkwX1_unsf_0 : List UInt8 := [3, 60, 3, 61, 28, 42, 180, 0, 24, 182, 0, 48, 162, 0, 59, 27, 42, 28, 182, 0, 66, 58, 4]
abbrev dktX1_unsf_0 : List UInt8 := dkwX1_unsf_0 ++ dktX1_unsf_1
theorem dksX1_unsf_0 : cX1_unsf.data.toList.drop 0 = dktX1_unsf_0 := by decide +kernel
theorem dksX1_unsf_1 : cX1_unsf.data.toList.drop 23 = dktX1_unsf_1 := dk_seg dksX1_unsf_0 23 rfl rfl
theorem dksX1_unsf_2 : cX1_unsf.data.toList.drop 46 = dktX1_unsf_2 := dk_seg dksX1_unsf_1 23 rfl rfl
theorem dksX1_unsf_3 : cX1_unsf.data.toList.drop 68 = dktX1_unsf_3 := dk_seg dksX1_unsf_2 22 rfl rfl
theorem dX1_unsf_0 : decode cX1_unsf 0 = .ok (.iconst 0, 1) := dk_3 (dk_at dksX1_unsf_0 0 rfl rfl)
theorem dX1_unsf_1 : decode cX1_unsf 1 = .ok (.istore_n 1, 1) := dk_60 (dk_at dksX1_unsf_0 1 rfl rfl)
theorem dX1_unsf_2 : decode cX1_unsf 2 = .ok (.iconst 0, 1) := dk_3 (dk_at dksX1_unsf_0 2 rfl rfl)
theorem dX1_unsf_3 : decode cX1_unsf 3 = .ok (.istore_n 2, 1) := dk_61 (dk_at dksX1_unsf_0 3 rfl rfl)
theorem dX1_unsf_4 : decode cX1_unsf 4 = .ok (.iload_n 2, 1) := dk_28 (dk_at dksX1_unsf_0 4 rfl rfl)
theorem dX1_unsf_5 : decode cX1_unsf 5 = .ok (.aload_n 0, 1) := dk_42 (dk_at dksX1_unsf_0 5 rfl rfl)
theorem dX1_unsf_6 : decode cX1_unsf 6 = .ok (.getfield 24, 3) := dk_180 0 24 (dk_at dksX1_unsf_0 6 rfl rfl)
theorem dX1_unsf_9 : decode cX1_unsf 9 = .ok (.invokevirtual 48, 3) := dk_182 0 48 (dk_at dksX1_unsf_0 9 rfl rfl)
theorem dX1_unsf_12 : decode cX1_unsf 12 = .ok (.if_icmp .ge 59, 3) := dk_162 0 59 (dk_at dksX1_unsf_0 12 rfl rfl)
theorem dX1_unsf_15 : decode cX1_unsf 15 = .ok (.iload_n 1, 1) := dk_27 (dk_at dksX1_unsf_0 15 rfl rfl)
theorem dX1_unsf_16 : decode cX1_unsf 16 = .ok (.aload_n 0, 1) := dk_42 (dk_at dksX1_unsf_0 16 rfl rfl)
theorem dX1_unsf_17 : decode cX1_unsf 17 = .ok (.iload_n 2, 1) := dk_28 (dk_at dksX1_unsf_0 17 rfl rfl)
theorem dX1_unsf_18 : decode cX1_unsf 18 = .ok (.invokevirtual 66, 3) := dk_182 0 66 (dk_at dksX1_unsf_0 18 rfl rfl)
theorem dX1_unsf_21 : decode cX1_unsf 21 = .ok (.astore 4, 2) := dk_58 4 (dk_at dksX1_unsf_0 21 rfl rfl)
theorem dX1_unsf_23 : decode cX1_unsf 23 = .ok (.aload 4, 2) := dk_25 4 (dk_at dksX1_unsf_1 0 rfl rfl)
theorem dX1_unsf_25 : decode cX1_unsf 25 = .ok (.instanceof 133, 3) := dk_193 0 133 (dk_at dksX1_unsf_1 2 rfl rfl)
theorem dX1_unsf_28 : decode cX1_unsf 28 = .ok (.ifCond .eq 34, 3) := dk_153 0 34 (dk_at dksX1_unsf_1 5 rfl rfl)
theorem dX1_unsf_31 : decode cX1_unsf 31 = .ok (.aload 4, 2) := dk_25 4 (dk_at dksX1_unsf_1 8 rfl rfl)
theorem dX1_unsf_33 : decode cX1_unsf 33 = .ok (.checkcast 133, 3) := dk_192 0 133 (dk_at dksX1_unsf_1 10 rfl rfl)
theorem dX1_unsf_36 : decode cX1_unsf 36 = .ok (.astore_n 3, 1) := dk_78 (dk_at dksX1_unsf_1 13 rfl rfl)
theorem dX1_unsf_37 : decode cX1_unsf 37 = .ok (.aload_n 3, 1) := dk_45 (dk_at dksX1_unsf_1 14 rfl rfl)
theorem dX1_unsf_38 : decode cX1_unsf 38 = .ok (.invokevirtual 167, 3) := dk_182 0 167 (dk_at dksX1_unsf_1 15 rfl rfl)
theorem dX1_unsf_41 : decode cX1_unsf 41 = .ok (.ifCond .ne 21, 3) := dk_154 0 21 (dk_at dksX1_unsf_1 18 rfl rfl)
theorem dX1_unsf_44 : decode cX1_unsf 44 = .ok (.aload_n 0, 1) := dk_42 (dk_at dksX1_unsf_1 21 rfl rfl)
theorem dX1_unsf_45 : decode cX1_unsf 45 = .ok (.aload_n 3, 1) := dk_45 (dk_at dksX1_unsf_1 22 rfl rfl)
theorem dX1_unsf_46 : decode cX1_unsf 46 = .ok (.bipush (-2), 2) := dk_16 254 (dk_at dksX1_unsf_2 0 rfl rfl)
theorem dX1_unsf_48 : decode cX1_unsf 48 = .ok (.invokevirtual 170, 3) := dk_182 0 170 (dk_at dksX1_unsf_2 2 rfl rfl)
theorem dX1_unsf_51 : decode cX1_unsf 51 = .ok (.aload_n 3, 1) := dk_45 (dk_at dksX1_unsf_2 5 rfl rfl)
theorem dX1_unsf_52 : decode cX1_unsf 52 = .ok (.getfield 139, 3) := dk_180 0 139 (dk_at dksX1_unsf_2 6 rfl rfl)
theorem dX1_unsf_55 : decode cX1_unsf 55 = .ok (.if_icmp .ge 7, 3) := dk_162 0 7 (dk_at dksX1_unsf_2 9 rfl rfl)
theorem dX1_unsf_58 : decode cX1_unsf 58 = .ok (.iconst 1, 1) := dk_4 (dk_at dksX1_unsf_2 12 rfl rfl)
theorem dX1_unsf_59 : decode cX1_unsf 59 = .ok (.goto 4, 3) := dk_167 0 4 (dk_at dksX1_unsf_2 13 rfl rfl)
theorem dX1_unsf_62 : decode cX1_unsf 62 = .ok (.iconst 0, 1) := dk_3 (dk_at dksX1_unsf_2 16 rfl rfl)
theorem dX1_unsf_63 : decode cX1_unsf 63 = .ok (.iadd, 1) := dk_96 (dk_at dksX1_unsf_2 17 rfl rfl)
theorem dX1_unsf_64 : decode cX1_unsf 64 = .ok (.istore_n 1, 1) := dk_60 (dk_at dksX1_unsf_2 18 rfl rfl)
theorem dX1_unsf_65 : decode cX1_unsf 65 = .ok (.iinc 2 1, 3) := dk_132 2 1 (dk_at dksX1_unsf_2 19 rfl rfl)
theorem dX1_unsf_68 : decode cX1_unsf 68 = .ok (.goto (-64), 3) := dk_167 255 192 (dk_at dksX1_unsf_3 0 rfl rfl)
theorem dX1_unsf_71 : decode cX1_unsf 71 = .ok (.iload_n 1, 1) := dk_27 (dk_at dksX1_unsf_3 3 rfl rfl)
theorem dX1_unsf_72 : decode cX1_unsf 72 = .ok (.ireturn, 1) := dk_172 (dk_at dksX1_unsf_3 4 rfl rfl)
abbrev cX1_load : ByteArray := prog_9_method_15_code
def yX1_load : MethodName := ⟨RX1, "load", "(I)I"⟩
def dkwX1_load_2 : List UInt8 := [25, 4, 180, 0, 139, 167, 0, 4, 3, 96, 61, 132, 3, 1, 167, 255, 199, 28, 172]
abbrev dktX1_load_2 : List UInt8 := dkwX1_load_2 ++ []
def dkwX1_load_1 : List UInt8 := [25, 5, 193, 0, 133, 153, 0, 27, 25, 5, 192, 0, 133, 58, 4, 25, 4, 27, 182, 0, 135, 153, 0, 11]
abbrev dktX1_load_1 : List UInt8 := dkwX1_load_1 ++ dktX1_load_2
def dkwX1_load_0 : List UInt8 := [3, 61, 3, 62, 29, 42, 180, 0, 24, 182, 0, 48, 162, 0, 52, 28, 42, 29, 182, 0, 66, 58, 5]
abbrev dktX1_load_0 : List UInt8 := dkwX1_load_0 ++ dktX1_load_1
theorem dksX1_load_0 : cX1_load.data.toList.drop 0 = dktX1_load_0 := by decide +kernel
theorem dksX1_load_1 : cX1_load.data.toList.drop 23 = dktX1_load_1 := dk_seg dksX1_load_0 23 rfl rfl
theorem dksX1_load_2 : cX1_load.data.toList.drop 47 = dktX1_load_2 := dk_seg dksX1_load_1 24 rfl rfl
theorem dX1_load_0 : decode cX1_load 0 = .ok (.iconst 0, 1) := dk_3 (dk_at dksX1_load_0 0 rfl rfl)
theorem dX1_load_1 : decode cX1_load 1 = .ok (.istore_n 2, 1) := dk_61 (dk_at dksX1_load_0 1 rfl rfl)
theorem dX1_load_2 : decode cX1_load 2 = .ok (.iconst 0, 1) := dk_3 (dk_at dksX1_load_0 2 rfl rfl)
theorem dX1_load_3 : decode cX1_load 3 = .ok (.istore_n 3, 1) := dk_62 (dk_at dksX1_load_0 3 rfl rfl)
theorem dX1_load_4 : decode cX1_load 4 = .ok (.iload_n 3, 1) := dk_29 (dk_at dksX1_load_0 4 rfl rfl)
theorem dX1_load_5 : decode cX1_load 5 = .ok (.aload_n 0, 1) := dk_42 (dk_at dksX1_load_0 5 rfl rfl)
theorem dX1_load_6 : decode cX1_load 6 = .ok (.getfield 24, 3) := dk_180 0 24 (dk_at dksX1_load_0 6 rfl rfl)
theorem dX1_load_9 : decode cX1_load 9 = .ok (.invokevirtual 48, 3) := dk_182 0 48 (dk_at dksX1_load_0 9 rfl rfl)
theorem dX1_load_12 : decode cX1_load 12 = .ok (.if_icmp .ge 52, 3) := dk_162 0 52 (dk_at dksX1_load_0 12 rfl rfl)
theorem dX1_load_15 : decode cX1_load 15 = .ok (.iload_n 2, 1) := dk_28 (dk_at dksX1_load_0 15 rfl rfl)
theorem dX1_load_16 : decode cX1_load 16 = .ok (.aload_n 0, 1) := dk_42 (dk_at dksX1_load_0 16 rfl rfl)
theorem dX1_load_17 : decode cX1_load 17 = .ok (.iload_n 3, 1) := dk_29 (dk_at dksX1_load_0 17 rfl rfl)
theorem dX1_load_18 : decode cX1_load 18 = .ok (.invokevirtual 66, 3) := dk_182 0 66 (dk_at dksX1_load_0 18 rfl rfl)
theorem dX1_load_21 : decode cX1_load 21 = .ok (.astore 5, 2) := dk_58 5 (dk_at dksX1_load_0 21 rfl rfl)
theorem dX1_load_23 : decode cX1_load 23 = .ok (.aload 5, 2) := dk_25 5 (dk_at dksX1_load_1 0 rfl rfl)
theorem dX1_load_25 : decode cX1_load 25 = .ok (.instanceof 133, 3) := dk_193 0 133 (dk_at dksX1_load_1 2 rfl rfl)
theorem dX1_load_28 : decode cX1_load 28 = .ok (.ifCond .eq 27, 3) := dk_153 0 27 (dk_at dksX1_load_1 5 rfl rfl)
theorem dX1_load_31 : decode cX1_load 31 = .ok (.aload 5, 2) := dk_25 5 (dk_at dksX1_load_1 8 rfl rfl)
theorem dX1_load_33 : decode cX1_load 33 = .ok (.checkcast 133, 3) := dk_192 0 133 (dk_at dksX1_load_1 10 rfl rfl)
theorem dX1_load_36 : decode cX1_load 36 = .ok (.astore 4, 2) := dk_58 4 (dk_at dksX1_load_1 13 rfl rfl)
theorem dX1_load_38 : decode cX1_load 38 = .ok (.aload 4, 2) := dk_25 4 (dk_at dksX1_load_1 15 rfl rfl)
theorem dX1_load_40 : decode cX1_load 40 = .ok (.iload_n 1, 1) := dk_27 (dk_at dksX1_load_1 17 rfl rfl)
theorem dX1_load_41 : decode cX1_load 41 = .ok (.invokevirtual 135, 3) := dk_182 0 135 (dk_at dksX1_load_1 18 rfl rfl)
theorem dX1_load_44 : decode cX1_load 44 = .ok (.ifCond .eq 11, 3) := dk_153 0 11 (dk_at dksX1_load_1 21 rfl rfl)
theorem dX1_load_47 : decode cX1_load 47 = .ok (.aload 4, 2) := dk_25 4 (dk_at dksX1_load_2 0 rfl rfl)
theorem dX1_load_49 : decode cX1_load 49 = .ok (.getfield 139, 3) := dk_180 0 139 (dk_at dksX1_load_2 2 rfl rfl)
theorem dX1_load_52 : decode cX1_load 52 = .ok (.goto 4, 3) := dk_167 0 4 (dk_at dksX1_load_2 5 rfl rfl)
theorem dX1_load_55 : decode cX1_load 55 = .ok (.iconst 0, 1) := dk_3 (dk_at dksX1_load_2 8 rfl rfl)
theorem dX1_load_56 : decode cX1_load 56 = .ok (.iadd, 1) := dk_96 (dk_at dksX1_load_2 9 rfl rfl)
theorem dX1_load_57 : decode cX1_load 57 = .ok (.istore_n 2, 1) := dk_61 (dk_at dksX1_load_2 10 rfl rfl)
theorem dX1_load_58 : decode cX1_load 58 = .ok (.iinc 3 1, 3) := dk_132 3 1 (dk_at dksX1_load_2 11 rfl rfl)
theorem dX1_load_61 : decode cX1_load 61 = .ok (.goto (-57), 3) := dk_167 255 199 (dk_at dksX1_load_2 14 rfl rfl)
theorem dX1_load_64 : decode cX1_load 64 = .ok (.iload_n 2, 1) := dk_28 (dk_at dksX1_load_2 17 rfl rfl)
theorem dX1_load_65 : decode cX1_load 65 = .ok (.ireturn, 1) := dk_172 (dk_at dksX1_load_2 18 rfl rfl)
theorem q103 : (Jvm.Cond.initialized "LandFolio$Folio") ∈ lw_all := lw_g (lw_at lw_m1 2 rfl) rfl
theorem q152 : (Jvm.Cond.instantiable "LandFolio$Folio" (9 : Nat)) ∈ lw_all := lw_g (lw_at lw_m1 51 rfl) rfl
theorem q154 : (Jvm.Cond.instanceMethod ({ cls := "LandFolio$Folio", name := "<init>", desc := "()V" } : Jvm.MethodName)) ∈ lw_all := lw_g (lw_at lw_m1 53 rfl) rfl
theorem q155 : (Jvm.Cond.code ({ cls := "LandFolio$Folio", name := "<init>", desc := "()V" } : Jvm.MethodName) prog_9_method_1_code (1 : Nat) (Option.none : Option Jvm.ClassFile.FieldType)) ∈ lw_all := lw_g (lw_at lw_m1 54 rfl) rfl
theorem q156 : (Jvm.Cond.methodLink "LandFolio$Folio" (3 : Nat) ({ cls := "java/lang/Object", name := "<init>", desc := "()V" } : Jvm.MethodName)) ∈ lw_all := lw_g (lw_at lw_m1 55 rfl) rfl
theorem q157 : (Jvm.Cond.classLink "LandFolio$Folio" (9 : Nat) "java/util/ArrayList") ∈ lw_all := lw_g (lw_at lw_m1 56 rfl) rfl
theorem q159 : (Jvm.Cond.methodLink "LandFolio$Folio" (11 : Nat) ({ cls := "java/util/ArrayList", name := "<init>", desc := "()V" } : Jvm.MethodName)) ∈ lw_all := lw_g (lw_at lw_m1 58 rfl) rfl
theorem q183 : (Jvm.Cond.fieldLink "LandFolio$Folio" (31 : Nat) "LandFolio$Folio" "wide" "I") ∈ lw_all := lw_g (lw_at lw_m1 82 rfl) rfl
theorem q185 : (Jvm.Cond.fieldLink "LandFolio$Folio" (35 : Nat) "LandFolio$Folio" "high" "I") ∈ lw_all := lw_g (lw_at lw_m1 84 rfl) rfl
theorem q187 : (Jvm.Cond.fieldLink "LandFolio$Folio" (38 : Nat) "LandFolio$Folio" "price" "I") ∈ lw_all := lw_g (lw_at lw_m1 86 rfl) rfl
theorem q189 : (Jvm.Cond.fieldLink "LandFolio$Folio" (41 : Nat) "LandFolio$Folio" "day" "I") ∈ lw_all := lw_g (lw_at lw_m1 88 rfl) rfl
theorem q191 : (Jvm.Cond.fieldLink "LandFolio$Folio" (12 : Nat) "LandFolio$Folio" "owners" "Ljava/util/ArrayList;") ∈ lw_all := lw_g (lw_at lw_m1 90 rfl) rfl
theorem q194 : (Jvm.Cond.fieldLink "LandFolio$Folio" (18 : Nat) "LandFolio$Folio" "parcels" "Ljava/util/ArrayList;") ∈ lw_all := lw_g (lw_at lw_m1 93 rfl) rfl
theorem q197 : (Jvm.Cond.fieldLink "LandFolio$Folio" (21 : Nat) "LandFolio$Folio" "deeds" "Ljava/util/ArrayList;") ∈ lw_all := lw_g (lw_at lw_m1 96 rfl) rfl
theorem q199 : (Jvm.Cond.fieldLink "LandFolio$Folio" (24 : Nat) "LandFolio$Folio" "burdens" "Ljava/util/ArrayList;") ∈ lw_all := lw_g (lw_at lw_m1 98 rfl) rfl
theorem q203 : (Jvm.Cond.fieldLink "LandFolio$Folio" (27 : Nat) "LandFolio$Folio" "log" "Ljava/util/ArrayList;") ∈ lw_all := lw_g (lw_at lw_m1 102 rfl) rfl
theorem q205 : (Jvm.Cond.lays "LandFolio$Folio" "LandFolio$Folio" "wide" "I") ∈ lw_all := lw_g (lw_at lw_m1 104 rfl) rfl
theorem q206 : (Jvm.Cond.soleField "LandFolio$Folio" "wide") ∈ lw_all := lw_g (lw_at lw_m1 105 rfl) rfl
theorem q207 : (Jvm.Cond.lays "LandFolio$Folio" "LandFolio$Folio" "high" "I") ∈ lw_all := lw_g (lw_at lw_m1 106 rfl) rfl
theorem q208 : (Jvm.Cond.soleField "LandFolio$Folio" "high") ∈ lw_all := lw_g (lw_at lw_m1 107 rfl) rfl
theorem q209 : (Jvm.Cond.lays "LandFolio$Folio" "LandFolio$Folio" "price" "I") ∈ lw_all := lw_g (lw_at lw_m1 108 rfl) rfl
theorem q210 : (Jvm.Cond.soleField "LandFolio$Folio" "price") ∈ lw_all := lw_g (lw_at lw_m1 109 rfl) rfl
theorem q211 : (Jvm.Cond.lays "LandFolio$Folio" "LandFolio$Folio" "day" "I") ∈ lw_all := lw_g (lw_at lw_m1 110 rfl) rfl
theorem q212 : (Jvm.Cond.soleField "LandFolio$Folio" "day") ∈ lw_all := lw_g (lw_at lw_m1 111 rfl) rfl
theorem q213 : (Jvm.Cond.laysFinal "LandFolio$Folio" "LandFolio$Folio" "owners" "Ljava/util/ArrayList;") ∈ lw_all := lw_g (lw_at lw_m1 112 rfl) rfl
theorem q214 : (Jvm.Cond.soleField "LandFolio$Folio" "owners") ∈ lw_all := lw_g (lw_at lw_m1 113 rfl) rfl
theorem q215 : (Jvm.Cond.laysFinal "LandFolio$Folio" "LandFolio$Folio" "parcels" "Ljava/util/ArrayList;") ∈ lw_all := lw_g (lw_at lw_m1 114 rfl) rfl
theorem q216 : (Jvm.Cond.soleField "LandFolio$Folio" "parcels") ∈ lw_all := lw_g (lw_at lw_m1 115 rfl) rfl
theorem q217 : (Jvm.Cond.laysFinal "LandFolio$Folio" "LandFolio$Folio" "deeds" "Ljava/util/ArrayList;") ∈ lw_all := lw_g (lw_at lw_m1 116 rfl) rfl
theorem q218 : (Jvm.Cond.soleField "LandFolio$Folio" "deeds") ∈ lw_all := lw_g (lw_at lw_m1 117 rfl) rfl
theorem q219 : (Jvm.Cond.laysFinal "LandFolio$Folio" "LandFolio$Folio" "burdens" "Ljava/util/ArrayList;") ∈ lw_all := lw_g (lw_at lw_m1 118 rfl) rfl
theorem q220 : (Jvm.Cond.soleField "LandFolio$Folio" "burdens") ∈ lw_all := lw_g (lw_at lw_m1 119 rfl) rfl
theorem q221 : (Jvm.Cond.laysFinal "LandFolio$Folio" "LandFolio$Folio" "log" "Ljava/util/ArrayList;") ∈ lw_all := lw_g (lw_at lw_m1 120 rfl) rfl
theorem q222 : (Jvm.Cond.soleField "LandFolio$Folio" "log") ∈ lw_all := lw_g (lw_at lw_m1 121 rfl) rfl
theorem q223 : (Jvm.Cond.superclass "LandFolio$Folio" "java/lang/Object") ∈ lw_all := lw_g (lw_at lw_m1 122 rfl) rfl
theorem q264 : (Jvm.Cond.selects "LandFolio$Folio" ({ cls := "java/lang/Object", name := "getClass", desc := "()Ljava/lang/Class;" } : Jvm.MethodName) ({ cls := "java/lang/Object", name := "getClass", desc := "()Ljava/lang/Class;" } : Jvm.MethodName)) ∈ lw_all := lw_g (lw_at lw_m1 163 rfl) rfl
theorem q297 : (Jvm.Cond.instanceMethod ({ cls := "LandFolio$Folio", name := "begins", desc := "(III)V" } : Jvm.MethodName)) ∈ lw_all := lw_g (lw_at lw_m1 196 rfl) rfl
theorem q298 : (Jvm.Cond.selects "LandFolio$Folio" ({ cls := "LandFolio$Folio", name := "begins", desc := "(III)V" } : Jvm.MethodName) ({ cls := "LandFolio$Folio", name := "begins", desc := "(III)V" } : Jvm.MethodName)) ∈ lw_all := lw_g (lw_at lw_m1 197 rfl) rfl
theorem q299 : (Jvm.Cond.code ({ cls := "LandFolio$Folio", name := "begins", desc := "(III)V" } : Jvm.MethodName) prog_9_method_6_code (5 : Nat) (Option.none : Option Jvm.ClassFile.FieldType)) ∈ lw_all := lw_g (lw_at lw_m1 198 rfl) rfl
theorem q300 : (Jvm.Cond.classLink "LandFolio$Folio" (57 : Nat) "LandFolio$Parcel") ∈ lw_all := lw_g (lw_at lw_m1 199 rfl) rfl
theorem q302 : (Jvm.Cond.methodLink "LandFolio$Folio" (87 : Nat) ({ cls := "LandFolio$Parcel", name := "<init>", desc := "(IIIIIII)V" } : Jvm.MethodName)) ∈ lw_all := lw_g (lw_at lw_m1 201 rfl) rfl
theorem q308 : (Jvm.Cond.fieldLinkNest "LandFolio$Folio" (201 : Nat) "LandFolio$Parcel" "x" "I" "LandFolio") ∈ lw_tbl := lw_at lw_m1 207 rfl
theorem q311 : (Jvm.Cond.fieldLinkNest "LandFolio$Folio" (202 : Nat) "LandFolio$Parcel" "y" "I" "LandFolio") ∈ lw_tbl := lw_at lw_m1 210 rfl
theorem q316 : (Jvm.Cond.fieldLinkNest "LandFolio$Folio" (199 : Nat) "LandFolio$Parcel" "wide" "I" "LandFolio") ∈ lw_tbl := lw_at lw_m1 215 rfl
theorem q319 : (Jvm.Cond.fieldLinkNest "LandFolio$Folio" (200 : Nat) "LandFolio$Parcel" "high" "I" "LandFolio") ∈ lw_tbl := lw_at lw_m1 218 rfl
theorem q327 : (Jvm.Cond.fieldLinkNest "LandFolio$Folio" (189 : Nat) "LandFolio$Parcel" "went" "I" "LandFolio") ∈ lw_tbl := lw_at lw_m1 226 rfl
theorem q331 : (Jvm.Cond.fieldLinkNest "LandFolio$Folio" (126 : Nat) "LandFolio$Parcel" "isBarred" "Z" "LandFolio") ∈ lw_tbl := lw_at lw_m1 230 rfl
theorem q354 : (Jvm.Cond.methodLink "LandFolio$Folio" (90 : Nat) ({ cls := "LandFolio$Folio", name := "comes", desc := "(LLandFolio$Parcel;[I)I" } : Jvm.MethodName)) ∈ lw_all := lw_g (lw_at lw_m2 13 rfl) rfl
theorem q355 : (Jvm.Cond.instanceMethod ({ cls := "LandFolio$Folio", name := "comes", desc := "(LLandFolio$Parcel;[I)I" } : Jvm.MethodName)) ∈ lw_all := lw_g (lw_at lw_m2 14 rfl) rfl
theorem q356 : (Jvm.Cond.selects "LandFolio$Folio" ({ cls := "LandFolio$Folio", name := "comes", desc := "(LLandFolio$Parcel;[I)I" } : Jvm.MethodName) ({ cls := "LandFolio$Folio", name := "comes", desc := "(LLandFolio$Parcel;[I)I" } : Jvm.MethodName)) ∈ lw_all := lw_g (lw_at lw_m2 15 rfl) rfl
theorem q357 : (Jvm.Cond.code ({ cls := "LandFolio$Folio", name := "comes", desc := "(LLandFolio$Parcel;[I)I" } : Jvm.MethodName) prog_9_method_7_code (3 : Nat) (Option.some Jvm.ClassFile.FieldType.int)) ∈ lw_all := lw_g (lw_at lw_m2 16 rfl) rfl
theorem q358 : (Jvm.Cond.methodLink "LandFolio$Folio" (62 : Nat) ({ cls := "java/util/ArrayList", name := "add", desc := "(Ljava/lang/Object;)Z" } : Jvm.MethodName)) ∈ lw_all := lw_g (lw_at lw_m2 17 rfl) rfl
theorem q359 : (Jvm.Cond.classLink "LandFolio$Folio" (94 : Nat) "LandFolio$Deed") ∈ lw_all := lw_g (lw_at lw_m2 18 rfl) rfl
theorem q361 : (Jvm.Cond.methodLink "LandFolio$Folio" (48 : Nat) ({ cls := "java/util/ArrayList", name := "size", desc := "()I" } : Jvm.MethodName)) ∈ lw_all := lw_g (lw_at lw_m2 20 rfl) rfl
theorem q365 : (Jvm.Cond.methodLink "LandFolio$Folio" (96 : Nat) ({ cls := "LandFolio$Deed", name := "<init>", desc := "(II[I)V" } : Jvm.MethodName)) ∈ lw_all := lw_g (lw_at lw_m2 24 rfl) rfl
theorem q370 : (Jvm.Cond.fieldLinkNest "LandFolio$Folio" (99 : Nat) "LandFolio$Deed" "parcel" "I" "LandFolio") ∈ lw_tbl := lw_at lw_m2 29 rfl
theorem q372 : (Jvm.Cond.fieldLinkNest "LandFolio$Folio" (101 : Nat) "LandFolio$Deed" "day" "I" "LandFolio") ∈ lw_tbl := lw_at lw_m2 31 rfl
theorem q375 : (Jvm.Cond.fieldLinkNest "LandFolio$Folio" (195 : Nat) "LandFolio$Deed" "shares" "[I" "LandFolio") ∈ lw_tbl := lw_at lw_m2 34 rfl
theorem q466 : (Jvm.Cond.instanceMethod ({ cls := "LandFolio$Folio", name := "copied", desc := "()LLandFolio$Folio;" } : Jvm.MethodName)) ∈ lw_all := lw_g (lw_at lw_m2 125 rfl) rfl
theorem q467 : (Jvm.Cond.selects "LandFolio$Folio" ({ cls := "LandFolio$Folio", name := "copied", desc := "()LLandFolio$Folio;" } : Jvm.MethodName) ({ cls := "LandFolio$Folio", name := "copied", desc := "()LLandFolio$Folio;" } : Jvm.MethodName)) ∈ lw_all := lw_g (lw_at lw_m2 126 rfl) rfl
theorem q468 : (Jvm.Cond.code ({ cls := "LandFolio$Folio", name := "copied", desc := "()LLandFolio$Folio;" } : Jvm.MethodName) prog_9_method_2_code (3 : Nat) (Option.some (Jvm.ClassFile.FieldType.object "LandFolio$Folio"))) ∈ lw_all := lw_g (lw_at lw_m2 127 rfl) rfl
theorem q469 : (Jvm.Cond.classLink "LandFolio$Folio" (13 : Nat) "LandFolio$Folio") ∈ lw_all := lw_g (lw_at lw_m2 128 rfl) rfl
theorem q470 : (Jvm.Cond.methodLink "LandFolio$Folio" (30 : Nat) ({ cls := "LandFolio$Folio", name := "<init>", desc := "()V" } : Jvm.MethodName)) ∈ lw_all := lw_g (lw_at lw_m2 129 rfl) rfl
theorem q471 : (Jvm.Cond.methodLink "LandFolio$Folio" (44 : Nat) ({ cls := "java/util/ArrayList", name := "addAll", desc := "(Ljava/util/Collection;)Z" } : Jvm.MethodName)) ∈ lw_all := lw_g (lw_at lw_m2 130 rfl) rfl
theorem q501 : (Jvm.Cond.methodLink "LandFolio$Folio" (52 : Nat) ({ cls := "LandFolio$Folio", name := "parcel", desc := "(I)LLandFolio$Parcel;" } : Jvm.MethodName)) ∈ lw_all := lw_g (lw_at lw_m2 160 rfl) rfl
theorem q502 : (Jvm.Cond.instanceMethod ({ cls := "LandFolio$Folio", name := "parcel", desc := "(I)LLandFolio$Parcel;" } : Jvm.MethodName)) ∈ lw_all := lw_g (lw_at lw_m2 161 rfl) rfl
theorem q503 : (Jvm.Cond.selects "LandFolio$Folio" ({ cls := "LandFolio$Folio", name := "parcel", desc := "(I)LLandFolio$Parcel;" } : Jvm.MethodName) ({ cls := "LandFolio$Folio", name := "parcel", desc := "(I)LLandFolio$Parcel;" } : Jvm.MethodName)) ∈ lw_all := lw_g (lw_at lw_m2 162 rfl) rfl
theorem q504 : (Jvm.Cond.code ({ cls := "LandFolio$Folio", name := "parcel", desc := "(I)LLandFolio$Parcel;" } : Jvm.MethodName) prog_9_method_4_code (2 : Nat) (Option.some (Jvm.ClassFile.FieldType.object "LandFolio$Parcel"))) ∈ lw_all := lw_g (lw_at lw_m2 163 rfl) rfl
theorem q505 : (Jvm.Cond.methodLink "LandFolio$Folio" (84 : Nat) ({ cls := "java/util/ArrayList", name := "get", desc := "(I)Ljava/lang/Object;" } : Jvm.MethodName)) ∈ lw_all := lw_g (lw_at lw_m2 164 rfl) rfl
theorem q519 : (Jvm.Cond.methodLink "LandFolio$Folio" (56 : Nat) ({ cls := "LandFolio$Parcel", name := "copied", desc := "()LLandFolio$Parcel;" } : Jvm.MethodName)) ∈ lw_all := lw_g (lw_at lw_m2 178 rfl) rfl
theorem q525 : (Jvm.Cond.methodLink "LandFolio$Folio" (66 : Nat) ({ cls := "LandFolio$Folio", name := "burden", desc := "(I)LLandFolio$Burden;" } : Jvm.MethodName)) ∈ lw_all := lw_g (lw_at lw_m2 184 rfl) rfl
theorem q526 : (Jvm.Cond.instanceMethod ({ cls := "LandFolio$Folio", name := "burden", desc := "(I)LLandFolio$Burden;" } : Jvm.MethodName)) ∈ lw_all := lw_g (lw_at lw_m2 185 rfl) rfl
theorem q527 : (Jvm.Cond.selects "LandFolio$Folio" ({ cls := "LandFolio$Folio", name := "burden", desc := "(I)LLandFolio$Burden;" } : Jvm.MethodName) ({ cls := "LandFolio$Folio", name := "burden", desc := "(I)LLandFolio$Burden;" } : Jvm.MethodName)) ∈ lw_all := lw_g (lw_at lw_m2 186 rfl) rfl
theorem q528 : (Jvm.Cond.code ({ cls := "LandFolio$Folio", name := "burden", desc := "(I)LLandFolio$Burden;" } : Jvm.MethodName) prog_9_method_5_code (2 : Nat) (Option.some (Jvm.ClassFile.FieldType.object "LandFolio$Burden"))) ∈ lw_all := lw_g (lw_at lw_m2 187 rfl) rfl
theorem q529 : (Jvm.Cond.classLink "LandFolio$Folio" (71 : Nat) "LandFolio$Burden") ∈ lw_all := lw_g (lw_at lw_m2 188 rfl) rfl
theorem q530 : (Jvm.Cond.methodLink "LandFolio$Folio" (70 : Nat) ({ cls := "LandFolio$Burden", name := "copied", desc := "()LLandFolio$Burden;" } : Jvm.MethodName)) ∈ lw_all := lw_g (lw_at lw_m2 189 rfl) rfl
theorem q590 : (Jvm.Cond.fieldLinkNest "LandFolio$Folio" (139 : Nat) "LandFolio$Debt" "amount" "I" "LandFolio") ∈ lw_tbl := lw_at lw_m3 9 rfl
theorem q597 : (Jvm.Cond.fieldLinkNest "LandFolio$Folio" (142 : Nat) "LandFolio$Burden" "place" "I" "LandFolio") ∈ lw_tbl := lw_at lw_m3 16 rfl
theorem q600 : (Jvm.Cond.fieldLinkNest "LandFolio$Folio" (145 : Nat) "LandFolio$Burden" "parcels" "Ljava/util/BitSet;" "LandFolio") ∈ lw_tbl := lw_at lw_m3 19 rfl
theorem q631 : (Jvm.Cond.fieldLinkNest "LandFolio$Folio" (175 : Nat) "LandFolio$Path" "x" "I" "LandFolio") ∈ lw_tbl := lw_at lw_m3 50 rfl
theorem q634 : (Jvm.Cond.fieldLinkNest "LandFolio$Folio" (178 : Nat) "LandFolio$Path" "y" "I" "LandFolio") ∈ lw_tbl := lw_at lw_m3 53 rfl
theorem q1145 : (Jvm.Cond.selects "LandFolio$Folio" ({ cls := "java/lang/Object", name := "equals", desc := "(Ljava/lang/Object;)Z" } : Jvm.MethodName) ({ cls := "java/lang/Object", name := "equals", desc := "(Ljava/lang/Object;)Z" } : Jvm.MethodName)) ∈ lw_all := lw_g (lw_at lw_m5 84 rfl) rfl
theorem q1168 : (Jvm.Cond.instanceMethod ({ cls := "LandFolio$Folio", name := "canSplit", desc := "()Z" } : Jvm.MethodName)) ∈ lw_all := lw_g (lw_at lw_m5 107 rfl) rfl
theorem q1169 : (Jvm.Cond.selects "LandFolio$Folio" ({ cls := "LandFolio$Folio", name := "canSplit", desc := "()Z" } : Jvm.MethodName) ({ cls := "LandFolio$Folio", name := "canSplit", desc := "()Z" } : Jvm.MethodName)) ∈ lw_all := lw_g (lw_at lw_m5 108 rfl) rfl
theorem q1170 : (Jvm.Cond.code ({ cls := "LandFolio$Folio", name := "canSplit", desc := "()Z" } : Jvm.MethodName) prog_9_method_25_code (1 : Nat) (Option.some Jvm.ClassFile.FieldType.boolean)) ∈ lw_all := lw_g (lw_at lw_m5 109 rfl) rfl
theorem q1186 : (Jvm.Cond.instanceMethod ({ cls := "LandFolio$Folio", name := "splits", desc := "(III)I" } : Jvm.MethodName)) ∈ lw_all := lw_g (lw_at lw_m5 125 rfl) rfl
theorem q1187 : (Jvm.Cond.selects "LandFolio$Folio" ({ cls := "LandFolio$Folio", name := "splits", desc := "(III)I" } : Jvm.MethodName) ({ cls := "LandFolio$Folio", name := "splits", desc := "(III)I" } : Jvm.MethodName)) ∈ lw_all := lw_g (lw_at lw_m5 126 rfl) rfl
theorem q1188 : (Jvm.Cond.code ({ cls := "LandFolio$Folio", name := "splits", desc := "(III)I" } : Jvm.MethodName) prog_9_method_22_code (14 : Nat) (Option.some Jvm.ClassFile.FieldType.int)) ∈ lw_all := lw_g (lw_at lw_m5 127 rfl) rfl
theorem q1189 : (Jvm.Cond.methodLink "LandFolio$Folio" (106 : Nat) ({ cls := "LandFolio$Folio", name := "deed", desc := "(I)LLandFolio$Deed;" } : Jvm.MethodName)) ∈ lw_all := lw_g (lw_at lw_m5 128 rfl) rfl
theorem q1190 : (Jvm.Cond.instanceMethod ({ cls := "LandFolio$Folio", name := "deed", desc := "(I)LLandFolio$Deed;" } : Jvm.MethodName)) ∈ lw_all := lw_g (lw_at lw_m5 129 rfl) rfl
theorem q1191 : (Jvm.Cond.selects "LandFolio$Folio" ({ cls := "LandFolio$Folio", name := "deed", desc := "(I)LLandFolio$Deed;" } : Jvm.MethodName) ({ cls := "LandFolio$Folio", name := "deed", desc := "(I)LLandFolio$Deed;" } : Jvm.MethodName)) ∈ lw_all := lw_g (lw_at lw_m5 130 rfl) rfl
theorem q1192 : (Jvm.Cond.code ({ cls := "LandFolio$Folio", name := "deed", desc := "(I)LLandFolio$Deed;" } : Jvm.MethodName) prog_9_method_9_code (2 : Nat) (Option.some (Jvm.ClassFile.FieldType.object "LandFolio$Deed"))) ∈ lw_all := lw_g (lw_at lw_m5 131 rfl) rfl
theorem q1193 : (Jvm.Cond.methodLink "LandFolio$Folio" (102 : Nat) ({ cls := "LandFolio$Folio", name := "deedOn", desc := "(II)LLandFolio$Deed;" } : Jvm.MethodName)) ∈ lw_all := lw_g (lw_at lw_m5 132 rfl) rfl
theorem q1194 : (Jvm.Cond.instanceMethod ({ cls := "LandFolio$Folio", name := "deedOn", desc := "(II)LLandFolio$Deed;" } : Jvm.MethodName)) ∈ lw_all := lw_g (lw_at lw_m5 133 rfl) rfl
theorem q1195 : (Jvm.Cond.selects "LandFolio$Folio" ({ cls := "LandFolio$Folio", name := "deedOn", desc := "(II)LLandFolio$Deed;" } : Jvm.MethodName) ({ cls := "LandFolio$Folio", name := "deedOn", desc := "(II)LLandFolio$Deed;" } : Jvm.MethodName)) ∈ lw_all := lw_g (lw_at lw_m5 134 rfl) rfl
theorem q1196 : (Jvm.Cond.code ({ cls := "LandFolio$Folio", name := "deedOn", desc := "(II)LLandFolio$Deed;" } : Jvm.MethodName) prog_9_method_8_code (6 : Nat) (Option.some (Jvm.ClassFile.FieldType.object "LandFolio$Deed"))) ∈ lw_all := lw_g (lw_at lw_m5 135 rfl) rfl
theorem q1197 : (Jvm.Cond.methodLink "LandFolio$Folio" (203 : Nat) ({ cls := "[I", name := "clone", desc := "()Ljava/lang/Object;" } : Jvm.MethodName)) ∈ lw_all := lw_g (lw_at lw_m5 136 rfl) rfl
theorem q1201 : (Jvm.Cond.classLink "LandFolio$Folio" (204 : Nat) "[I") ∈ lw_all := lw_g (lw_at lw_m5 140 rfl) rfl
theorem q1202 : (Jvm.Cond.methodLink "LandFolio$Folio" (208 : Nat) ({ cls := "LandFolio$Folio", name := "moves", desc := "(II)V" } : Jvm.MethodName)) ∈ lw_all := lw_g (lw_at lw_m5 141 rfl) rfl
theorem q1203 : (Jvm.Cond.privateMethod ({ cls := "LandFolio$Folio", name := "moves", desc := "(II)V" } : Jvm.MethodName)) ∈ lw_tbl := lw_at lw_m5 142 rfl
theorem q1204 : (Jvm.Cond.instanceMethod ({ cls := "LandFolio$Folio", name := "moves", desc := "(II)V" } : Jvm.MethodName)) ∈ lw_all := lw_g (lw_at lw_m5 143 rfl) rfl
theorem q1205 : (Jvm.Cond.code ({ cls := "LandFolio$Folio", name := "moves", desc := "(II)V" } : Jvm.MethodName) prog_9_method_20_code (5 : Nat) (Option.none : Option Jvm.ClassFile.FieldType)) ∈ lw_all := lw_g (lw_at lw_m5 144 rfl) rfl
theorem q1206 : (Jvm.Cond.methodLink "LandFolio$Folio" (181 : Nat) ({ cls := "LandFolio$Burden", name := "isOn", desc := "(I)Z" } : Jvm.MethodName)) ∈ lw_all := lw_g (lw_at lw_m5 145 rfl) rfl
theorem q1216 : (Jvm.Cond.methodLink "LandFolio$Folio" (182 : Nat) ({ cls := "LandFolio$Folio", name := "canLie", desc := "(LLandFolio$Burden;LLandFolio$Parcel;)Z" } : Jvm.MethodName)) ∈ lw_all := lw_g (lw_at lw_m5 155 rfl) rfl
theorem q1217 : (Jvm.Cond.static ({ cls := "LandFolio$Folio", name := "canLie", desc := "(LLandFolio$Burden;LLandFolio$Parcel;)Z" } : Jvm.MethodName)) ∈ lw_all := lw_g (lw_at lw_m5 156 rfl) rfl
theorem q1218 : (Jvm.Cond.code ({ cls := "LandFolio$Folio", name := "canLie", desc := "(LLandFolio$Burden;LLandFolio$Parcel;)Z" } : Jvm.MethodName) prog_9_method_19_code (3 : Nat) (Option.some Jvm.ClassFile.FieldType.boolean)) ∈ lw_all := lw_g (lw_at lw_m5 157 rfl) rfl
theorem q1219 : (Jvm.Cond.classLink "LandFolio$Folio" (173 : Nat) "LandFolio$Path") ∈ lw_all := lw_g (lw_at lw_m5 158 rfl) rfl
theorem q1220 : (Jvm.Cond.methodLink "LandFolio$Folio" (122 : Nat) ({ cls := "LandFolio$Parcel", name := "has", desc := "(II)Z" } : Jvm.MethodName)) ∈ lw_all := lw_g (lw_at lw_m5 159 rfl) rfl
theorem q1225 : (Jvm.Cond.methodLink "LandFolio$Folio" (186 : Nat) ({ cls := "java/util/BitSet", name := "set", desc := "(I)V" } : Jvm.MethodName)) ∈ lw_all := lw_g (lw_at lw_m5 164 rfl) rfl
theorem q1233 : (Jvm.Cond.methodLink "LandFolio$Folio" (212 : Nat) ({ cls := "LandFolio$Folio", name := "goes", desc := "(I)V" } : Jvm.MethodName)) ∈ lw_all := lw_g (lw_at lw_m5 172 rfl) rfl
theorem q1234 : (Jvm.Cond.privateMethod ({ cls := "LandFolio$Folio", name := "goes", desc := "(I)V" } : Jvm.MethodName)) ∈ lw_tbl := lw_at lw_m5 173 rfl
theorem q1235 : (Jvm.Cond.instanceMethod ({ cls := "LandFolio$Folio", name := "goes", desc := "(I)V" } : Jvm.MethodName)) ∈ lw_all := lw_g (lw_at lw_m5 174 rfl) rfl
theorem q1236 : (Jvm.Cond.code ({ cls := "LandFolio$Folio", name := "goes", desc := "(I)V" } : Jvm.MethodName) prog_9_method_21_code (3 : Nat) (Option.none : Option Jvm.ClassFile.FieldType)) ∈ lw_all := lw_g (lw_at lw_m5 175 rfl) rfl
theorem q1237 : (Jvm.Cond.methodLink "LandFolio$Folio" (192 : Nat) ({ cls := "java/util/BitSet", name := "clear", desc := "(I)V" } : Jvm.MethodName)) ∈ lw_all := lw_g (lw_at lw_m5 176 rfl) rfl
theorem q1258 : (Jvm.Cond.instanceMethod ({ cls := "LandFolio$Folio", name := "gives", desc := "(IIII)V" } : Jvm.MethodName)) ∈ lw_all := lw_g (lw_at lw_m5 197 rfl) rfl
theorem q1259 : (Jvm.Cond.selects "LandFolio$Folio" ({ cls := "LandFolio$Folio", name := "gives", desc := "(IIII)V" } : Jvm.MethodName) ({ cls := "LandFolio$Folio", name := "gives", desc := "(IIII)V" } : Jvm.MethodName)) ∈ lw_all := lw_g (lw_at lw_m5 198 rfl) rfl
theorem q1260 : (Jvm.Cond.code ({ cls := "LandFolio$Folio", name := "gives", desc := "(IIII)V" } : Jvm.MethodName) prog_9_method_24_code (6 : Nat) (Option.none : Option Jvm.ClassFile.FieldType)) ∈ lw_all := lw_g (lw_at lw_m5 199 rfl) rfl
theorem q1261 : (Jvm.Cond.methodLink "LandFolio$Folio" (218 : Nat) ({ cls := "LandFolio$Folio", name := "deeds", desc := "(I[I)V" } : Jvm.MethodName)) ∈ lw_all := lw_g (lw_at lw_m5 200 rfl) rfl
theorem q1262 : (Jvm.Cond.instanceMethod ({ cls := "LandFolio$Folio", name := "deeds", desc := "(I[I)V" } : Jvm.MethodName)) ∈ lw_all := lw_g (lw_at lw_m5 201 rfl) rfl
theorem q1263 : (Jvm.Cond.selects "LandFolio$Folio" ({ cls := "LandFolio$Folio", name := "deeds", desc := "(I[I)V" } : Jvm.MethodName) ({ cls := "LandFolio$Folio", name := "deeds", desc := "(I[I)V" } : Jvm.MethodName)) ∈ lw_all := lw_g (lw_at lw_m5 202 rfl) rfl
theorem q1264 : (Jvm.Cond.code ({ cls := "LandFolio$Folio", name := "deeds", desc := "(I[I)V" } : Jvm.MethodName) prog_9_method_11_code (6 : Nat) (Option.none : Option Jvm.ClassFile.FieldType)) ∈ lw_all := lw_g (lw_at lw_m5 203 rfl) rfl
theorem q1265 : (Jvm.Cond.methodLink "LandFolio$Folio" (110 : Nat) ({ cls := "java/util/ArrayList", name := "indexOf", desc := "(Ljava/lang/Object;)I" } : Jvm.MethodName)) ∈ lw_all := lw_g (lw_at lw_m5 204 rfl) rfl
theorem q1266 : (Jvm.Cond.methodLink "LandFolio$Folio" (114 : Nat) ({ cls := "java/util/ArrayList", name := "set", desc := "(ILjava/lang/Object;)Ljava/lang/Object;" } : Jvm.MethodName)) ∈ lw_all := lw_g (lw_at lw_m5 205 rfl) rfl
theorem q1278 : (Jvm.Cond.instanceMethod ({ cls := "LandFolio$Folio", name := "burdens", desc := "(LLandFolio$Burden;I)V" } : Jvm.MethodName)) ∈ lw_all := lw_g (lw_at lw_m5 217 rfl) rfl
theorem q1279 : (Jvm.Cond.selects "LandFolio$Folio" ({ cls := "LandFolio$Folio", name := "burdens", desc := "(LLandFolio$Burden;I)V" } : Jvm.MethodName) ({ cls := "LandFolio$Folio", name := "burdens", desc := "(LLandFolio$Burden;I)V" } : Jvm.MethodName)) ∈ lw_all := lw_g (lw_at lw_m5 218 rfl) rfl
theorem q1280 : (Jvm.Cond.code ({ cls := "LandFolio$Folio", name := "burdens", desc := "(LLandFolio$Burden;I)V" } : Jvm.MethodName) prog_9_method_27_code (3 : Nat) (Option.none : Option Jvm.ClassFile.FieldType)) ∈ lw_all := lw_g (lw_at lw_m5 219 rfl) rfl
theorem q1288 : (Jvm.Cond.instanceMethod ({ cls := "LandFolio$Folio", name := "hasPath", desc := "(III)Z" } : Jvm.MethodName)) ∈ lw_all := lw_g (lw_at lw_m5 227 rfl) rfl
theorem q1289 : (Jvm.Cond.selects "LandFolio$Folio" ({ cls := "LandFolio$Folio", name := "hasPath", desc := "(III)Z" } : Jvm.MethodName) ({ cls := "LandFolio$Folio", name := "hasPath", desc := "(III)Z" } : Jvm.MethodName)) ∈ lw_all := lw_g (lw_at lw_m5 228 rfl) rfl
theorem q1290 : (Jvm.Cond.code ({ cls := "LandFolio$Folio", name := "hasPath", desc := "(III)Z" } : Jvm.MethodName) prog_9_method_26_code (8 : Nat) (Option.some Jvm.ClassFile.FieldType.boolean)) ∈ lw_all := lw_g (lw_at lw_m5 229 rfl) rfl
theorem q1291 : (Jvm.Cond.methodLink "LandFolio$Folio" (221 : Nat) ({ cls := "LandFolio$Path", name := "isOn", desc := "(I)Z" } : Jvm.MethodName)) ∈ lw_all := lw_g (lw_at lw_m5 230 rfl) rfl
theorem q1319 : (Jvm.Cond.instanceMethod ({ cls := "LandFolio$Folio", name := "logs", desc := "(III)V" } : Jvm.MethodName)) ∈ lw_all := lw_g (lw_at lw_m6 18 rfl) rfl
theorem q1320 : (Jvm.Cond.selects "LandFolio$Folio" ({ cls := "LandFolio$Folio", name := "logs", desc := "(III)V" } : Jvm.MethodName) ({ cls := "LandFolio$Folio", name := "logs", desc := "(III)V" } : Jvm.MethodName)) ∈ lw_all := lw_g (lw_at lw_m6 19 rfl) rfl
theorem q1321 : (Jvm.Cond.code ({ cls := "LandFolio$Folio", name := "logs", desc := "(III)V" } : Jvm.MethodName) prog_9_method_3_code (5 : Nat) (Option.none : Option Jvm.ClassFile.FieldType)) ∈ lw_all := lw_g (lw_at lw_m6 20 rfl) rfl
theorem q1322 : (Jvm.Cond.methodLink "LandFolio$Folio" (75 : Nat) ({ cls := "java/util/ArrayList", name := "remove", desc := "(I)Ljava/lang/Object;" } : Jvm.MethodName)) ∈ lw_all := lw_g (lw_at lw_m6 21 rfl) rfl
theorem q1330 : (Jvm.Cond.classLink "LandFolio$Folio" (79 : Nat) "LandFolio$Entry") ∈ lw_all := lw_g (lw_at lw_m6 29 rfl) rfl
theorem q1332 : (Jvm.Cond.methodLink "LandFolio$Folio" (81 : Nat) ({ cls := "LandFolio$Entry", name := "<init>", desc := "(III)V" } : Jvm.MethodName)) ∈ lw_all := lw_g (lw_at lw_m6 31 rfl) rfl
theorem q1374 : (Jvm.Cond.instanceMethod ({ cls := "LandFolio$Folio", name := "isFree", desc := "(I)Z" } : Jvm.MethodName)) ∈ lw_all := lw_g (lw_at lw_m6 73 rfl) rfl
theorem q1375 : (Jvm.Cond.selects "LandFolio$Folio" ({ cls := "LandFolio$Folio", name := "isFree", desc := "(I)Z" } : Jvm.MethodName) ({ cls := "LandFolio$Folio", name := "isFree", desc := "(I)Z" } : Jvm.MethodName)) ∈ lw_all := lw_g (lw_at lw_m6 74 rfl) rfl
theorem q1376 : (Jvm.Cond.code ({ cls := "LandFolio$Folio", name := "isFree", desc := "(I)Z" } : Jvm.MethodName) prog_9_method_13_code (2 : Nat) (Option.some Jvm.ClassFile.FieldType.boolean)) ∈ lw_all := lw_g (lw_at lw_m6 75 rfl) rfl
theorem q1377 : (Jvm.Cond.methodLink "LandFolio$Folio" (118 : Nat) ({ cls := "LandFolio$Parcel", name := "isLive", desc := "()Z" } : Jvm.MethodName)) ∈ lw_all := lw_g (lw_at lw_m6 76 rfl) rfl
theorem q1450 : (Jvm.Cond.instanceMethod ({ cls := "LandFolio$Folio", name := "joins", desc := "(II)I" } : Jvm.MethodName)) ∈ lw_all := lw_g (lw_at lw_m6 149 rfl) rfl
theorem q1451 : (Jvm.Cond.selects "LandFolio$Folio" ({ cls := "LandFolio$Folio", name := "joins", desc := "(II)I" } : Jvm.MethodName) ({ cls := "LandFolio$Folio", name := "joins", desc := "(II)I" } : Jvm.MethodName)) ∈ lw_all := lw_g (lw_at lw_m6 150 rfl) rfl
theorem q1452 : (Jvm.Cond.code ({ cls := "LandFolio$Folio", name := "joins", desc := "(II)I" } : Jvm.MethodName) prog_9_method_23_code (10 : Nat) (Option.some Jvm.ClassFile.FieldType.int)) ∈ lw_all := lw_g (lw_at lw_m6 151 rfl) rfl
theorem q1453 : (Jvm.Cond.methodLink "LandFolio$Folio" (215 : Nat) ({ cls := "java/lang/Math", name := "min", desc := "(II)I" } : Jvm.MethodName)) ∈ lw_all := lw_g (lw_at lw_m6 152 rfl) rfl
theorem q1454 : (Jvm.Cond.methodLink "LandFolio$Folio" (161 : Nat) ({ cls := "java/lang/Math", name := "max", desc := "(II)I" } : Jvm.MethodName)) ∈ lw_all := lw_g (lw_at lw_m6 153 rfl) rfl
theorem q1462 : (Jvm.Cond.instanceMethod ({ cls := "LandFolio$Folio", name := "needsDeed", desc := "(I)Z" } : Jvm.MethodName)) ∈ lw_all := lw_g (lw_at lw_m6 161 rfl) rfl
theorem q1463 : (Jvm.Cond.selects "LandFolio$Folio" ({ cls := "LandFolio$Folio", name := "needsDeed", desc := "(I)Z" } : Jvm.MethodName) ({ cls := "LandFolio$Folio", name := "needsDeed", desc := "(I)Z" } : Jvm.MethodName)) ∈ lw_all := lw_g (lw_at lw_m6 162 rfl) rfl
theorem q1464 : (Jvm.Cond.code ({ cls := "LandFolio$Folio", name := "needsDeed", desc := "(I)Z" } : Jvm.MethodName) prog_9_method_10_code (2 : Nat) (Option.some Jvm.ClassFile.FieldType.boolean)) ∈ lw_all := lw_g (lw_at lw_m6 163 rfl) rfl
theorem q1482 : (Jvm.Cond.instanceMethod ({ cls := "LandFolio$Folio", name := "liveAt", desc := "(II)I" } : Jvm.MethodName)) ∈ lw_all := lw_g (lw_at lw_m6 181 rfl) rfl
theorem q1483 : (Jvm.Cond.selects "LandFolio$Folio" ({ cls := "LandFolio$Folio", name := "liveAt", desc := "(II)I" } : Jvm.MethodName) ({ cls := "LandFolio$Folio", name := "liveAt", desc := "(II)I" } : Jvm.MethodName)) ∈ lw_all := lw_g (lw_at lw_m6 182 rfl) rfl
theorem q1484 : (Jvm.Cond.code ({ cls := "LandFolio$Folio", name := "liveAt", desc := "(II)I" } : Jvm.MethodName) prog_9_method_12_code (4 : Nat) (Option.some Jvm.ClassFile.FieldType.int)) ∈ lw_all := lw_g (lw_at lw_m6 183 rfl) rfl
theorem q1527 : (Jvm.Cond.instanceMethod ({ cls := "LandFolio$Folio", name := "cover", desc := "(LLandFolio$Burden;I)I" } : Jvm.MethodName)) ∈ lw_all := lw_g (lw_at lw_m6 226 rfl) rfl
theorem q1528 : (Jvm.Cond.selects "LandFolio$Folio" ({ cls := "LandFolio$Folio", name := "cover", desc := "(LLandFolio$Burden;I)I" } : Jvm.MethodName) ({ cls := "LandFolio$Folio", name := "cover", desc := "(LLandFolio$Burden;I)I" } : Jvm.MethodName)) ∈ lw_all := lw_g (lw_at lw_m6 227 rfl) rfl
theorem q1529 : (Jvm.Cond.code ({ cls := "LandFolio$Folio", name := "cover", desc := "(LLandFolio$Burden;I)I" } : Jvm.MethodName) prog_9_method_17_code (5 : Nat) (Option.some Jvm.ClassFile.FieldType.int)) ∈ lw_all := lw_g (lw_at lw_m6 228 rfl) rfl
theorem q1530 : (Jvm.Cond.methodLink "LandFolio$Folio" (148 : Nat) ({ cls := "java/util/BitSet", name := "nextSetBit", desc := "(I)I" } : Jvm.MethodName)) ∈ lw_all := lw_g (lw_at lw_m6 229 rfl) rfl
theorem q1541 : (Jvm.Cond.methodLink "LandFolio$Folio" (154 : Nat) ({ cls := "LandFolio$Folio", name := "value", desc := "(I)I" } : Jvm.MethodName)) ∈ lw_all := lw_g (lw_at lw_m7 0 rfl) rfl
theorem q1542 : (Jvm.Cond.instanceMethod ({ cls := "LandFolio$Folio", name := "value", desc := "(I)I" } : Jvm.MethodName)) ∈ lw_all := lw_g (lw_at lw_m7 1 rfl) rfl
theorem q1543 : (Jvm.Cond.selects "LandFolio$Folio" ({ cls := "LandFolio$Folio", name := "value", desc := "(I)I" } : Jvm.MethodName) ({ cls := "LandFolio$Folio", name := "value", desc := "(I)I" } : Jvm.MethodName)) ∈ lw_all := lw_g (lw_at lw_m7 2 rfl) rfl
theorem q1544 : (Jvm.Cond.code ({ cls := "LandFolio$Folio", name := "value", desc := "(I)I" } : Jvm.MethodName) prog_9_method_14_code (2 : Nat) (Option.some Jvm.ClassFile.FieldType.int)) ∈ lw_all := lw_g (lw_at lw_m7 3 rfl) rfl
theorem q1545 : (Jvm.Cond.methodLink "LandFolio$Folio" (130 : Nat) ({ cls := "LandFolio$Parcel", name := "area", desc := "()I" } : Jvm.MethodName)) ∈ lw_all := lw_g (lw_at lw_m7 4 rfl) rfl
theorem q1549 : (Jvm.Cond.methodLink "LandFolio$Folio" (157 : Nat) ({ cls := "LandFolio$Folio", name := "ahead", desc := "(LLandFolio$Burden;I)I" } : Jvm.MethodName)) ∈ lw_all := lw_g (lw_at lw_m7 8 rfl) rfl
theorem q1550 : (Jvm.Cond.instanceMethod ({ cls := "LandFolio$Folio", name := "ahead", desc := "(LLandFolio$Burden;I)I" } : Jvm.MethodName)) ∈ lw_all := lw_g (lw_at lw_m7 9 rfl) rfl
theorem q1551 : (Jvm.Cond.selects "LandFolio$Folio" ({ cls := "LandFolio$Folio", name := "ahead", desc := "(LLandFolio$Burden;I)I" } : Jvm.MethodName) ({ cls := "LandFolio$Folio", name := "ahead", desc := "(LLandFolio$Burden;I)I" } : Jvm.MethodName)) ∈ lw_all := lw_g (lw_at lw_m7 10 rfl) rfl
theorem q1552 : (Jvm.Cond.code ({ cls := "LandFolio$Folio", name := "ahead", desc := "(LLandFolio$Burden;I)I" } : Jvm.MethodName) prog_9_method_16_code (7 : Nat) (Option.some Jvm.ClassFile.FieldType.int)) ∈ lw_all := lw_g (lw_at lw_m7 11 rfl) rfl
theorem q1553 : (Jvm.Cond.classLink "LandFolio$Folio" (133 : Nat) "LandFolio$Debt") ∈ lw_all := lw_g (lw_at lw_m7 12 rfl) rfl
theorem q1554 : (Jvm.Cond.methodLink "LandFolio$Folio" (135 : Nat) ({ cls := "LandFolio$Debt", name := "isOn", desc := "(I)Z" } : Jvm.MethodName)) ∈ lw_all := lw_g (lw_at lw_m7 13 rfl) rfl
theorem q1601 : (Jvm.Cond.instanceMethod yX1_unsf) ∈ lw_all := lw_g (lw_at lw_m7 60 rfl) rfl
theorem q1602 : (Jvm.Cond.selects "LandFolio$Folio" yX1_unsf yX1_unsf) ∈ lw_all := lw_g (lw_at lw_m7 61 rfl) rfl
theorem q1603 : (Jvm.Cond.code yX1_unsf prog_9_method_18_code (5 : Nat) (Option.some Jvm.ClassFile.FieldType.int)) ∈ lw_all := lw_g (lw_at lw_m7 62 rfl) rfl
theorem q1604 : (Jvm.Cond.methodLink "LandFolio$Folio" (167 : Nat) ({ cls := "LandFolio$Debt", name := "isEnded", desc := "()Z" } : Jvm.MethodName)) ∈ lw_all := lw_g (lw_at lw_m7 63 rfl) rfl
theorem q1605 : (Jvm.Cond.methodLink "LandFolio$Folio" (170 : Nat) ({ cls := "LandFolio$Folio", name := "cover", desc := "(LLandFolio$Burden;I)I" } : Jvm.MethodName)) ∈ lw_all := lw_g (lw_at lw_m7 64 rfl) rfl
theorem q1713 : (Jvm.Cond.instanceMethod ({ cls := "LandFolio$Folio", name := "load", desc := "(I)I" } : Jvm.MethodName)) ∈ lw_all := lw_g (lw_at lw_m7 172 rfl) rfl
theorem q1714 : (Jvm.Cond.selects "LandFolio$Folio" ({ cls := "LandFolio$Folio", name := "load", desc := "(I)I" } : Jvm.MethodName) ({ cls := "LandFolio$Folio", name := "load", desc := "(I)I" } : Jvm.MethodName)) ∈ lw_all := lw_g (lw_at lw_m7 173 rfl) rfl
theorem q1715 : (Jvm.Cond.code ({ cls := "LandFolio$Folio", name := "load", desc := "(I)I" } : Jvm.MethodName) prog_9_method_15_code (6 : Nat) (Option.some Jvm.ClassFile.FieldType.int)) ∈ lw_all := lw_g (lw_at lw_m7 174 rfl) rfl
theorem q2618 : (Jvm.Cond.castable "LandFolio$Folio" "java/lang/Object") ∈ lw_tbl := lw_at lw_m11 117 rfl
theorem in_X1 : ∀ w ∈ wsX10, w ∈ lw_all := lw_in wsX10 [205, 207, 209, 211, 213, 215, 217, 219, 221] (by decide +kernel) (by decide +kernel)
/-! LandFolio$Parcel -/
set_option maxRecDepth 100000
def RX2 : String := "LandFolio$Parcel"
def TX2 : u_T := fun k => match k with
  | 0 => ("LandFolio$Parcel", "x", "I", true)
  | 1 => ("LandFolio$Parcel", "y", "I", true)
  | 2 => ("LandFolio$Parcel", "wide", "I", true)
  | 3 => ("LandFolio$Parcel", "high", "I", true)
  | 4 => ("LandFolio$Parcel", "came", "I", true)
  | 5 => ("LandFolio$Parcel", "parent", "I", true)
  | 6 => ("LandFolio$Parcel", "second", "I", true)
  | 7 => ("LandFolio$Parcel", "went", "I", false)
  | _ => ("LandFolio$Parcel", "isBarred", "Z", false)
def tyX2 : Nat → FieldType := fun k => match k with
  | 0 => .int
  | 1 => .int
  | 2 => .int
  | 3 => .int
  | 4 => .int
  | 5 => .int
  | 6 => .int
  | 7 => .int
  | _ => .boolean
abbrev wsX20 : List Cond := u_ws RX2 TX2 9
theorem nmX2 : ∀ a, a < 9 → ∀ b, b < 9 → a ≠ b → (TX2 a).2.1 ≠ (TX2 b).2.1 := by decide +kernel
theorem tyX2_ok : ∀ k, k < 9 → parseFieldDescriptor (TX2 k).2.2.1 = some (tyX2 k) := by decide +kernel
abbrev cX2_init : ByteArray := prog_10_method_1_code
def yX2_init : MethodName := ⟨RX2, "<init>", "(IIIIIII)V"⟩
def dkwX2_init_2 : List UInt8 := [181, 0, 33, 177]
abbrev dktX2_init_2 : List UInt8 := dkwX2_init_2 ++ []
def dkwX2_init_1 : List UInt8 := [181, 0, 21, 42, 21, 4, 181, 0, 24, 42, 21, 5, 181, 0, 27, 42, 21, 6, 181, 0, 30, 42, 21, 7]
abbrev dktX2_init_1 : List UInt8 := dkwX2_init_1 ++ dktX2_init_2
def dkwX2_init_0 : List UInt8 := [42, 183, 0, 3, 42, 16, 254, 181, 0, 9, 42, 27, 181, 0, 15, 42, 28, 181, 0, 18, 42, 29]
abbrev dktX2_init_0 : List UInt8 := dkwX2_init_0 ++ dktX2_init_1
theorem dksX2_init_0 : cX2_init.data.toList.drop 0 = dktX2_init_0 := by decide +kernel
theorem dksX2_init_1 : cX2_init.data.toList.drop 22 = dktX2_init_1 := dk_seg dksX2_init_0 22 rfl rfl
theorem dksX2_init_2 : cX2_init.data.toList.drop 46 = dktX2_init_2 := dk_seg dksX2_init_1 24 rfl rfl
theorem dX2_init_0 : decode cX2_init 0 = .ok (.aload_n 0, 1) := dk_42 (dk_at dksX2_init_0 0 rfl rfl)
theorem dX2_init_1 : decode cX2_init 1 = .ok (.invokespecial 3, 3) := dk_183 0 3 (dk_at dksX2_init_0 1 rfl rfl)
theorem dX2_init_4 : decode cX2_init 4 = .ok (.aload_n 0, 1) := dk_42 (dk_at dksX2_init_0 4 rfl rfl)
theorem dX2_init_5 : decode cX2_init 5 = .ok (.bipush (-2), 2) := dk_16 254 (dk_at dksX2_init_0 5 rfl rfl)
theorem dX2_init_7 : decode cX2_init 7 = .ok (.putfield 9, 3) := dk_181 0 9 (dk_at dksX2_init_0 7 rfl rfl)
theorem dX2_init_10 : decode cX2_init 10 = .ok (.aload_n 0, 1) := dk_42 (dk_at dksX2_init_0 10 rfl rfl)
theorem dX2_init_11 : decode cX2_init 11 = .ok (.iload_n 1, 1) := dk_27 (dk_at dksX2_init_0 11 rfl rfl)
theorem dX2_init_12 : decode cX2_init 12 = .ok (.putfield 15, 3) := dk_181 0 15 (dk_at dksX2_init_0 12 rfl rfl)
theorem dX2_init_15 : decode cX2_init 15 = .ok (.aload_n 0, 1) := dk_42 (dk_at dksX2_init_0 15 rfl rfl)
theorem dX2_init_16 : decode cX2_init 16 = .ok (.iload_n 2, 1) := dk_28 (dk_at dksX2_init_0 16 rfl rfl)
theorem dX2_init_17 : decode cX2_init 17 = .ok (.putfield 18, 3) := dk_181 0 18 (dk_at dksX2_init_0 17 rfl rfl)
theorem dX2_init_20 : decode cX2_init 20 = .ok (.aload_n 0, 1) := dk_42 (dk_at dksX2_init_0 20 rfl rfl)
theorem dX2_init_21 : decode cX2_init 21 = .ok (.iload_n 3, 1) := dk_29 (dk_at dksX2_init_0 21 rfl rfl)
theorem dX2_init_22 : decode cX2_init 22 = .ok (.putfield 21, 3) := dk_181 0 21 (dk_at dksX2_init_1 0 rfl rfl)
theorem dX2_init_25 : decode cX2_init 25 = .ok (.aload_n 0, 1) := dk_42 (dk_at dksX2_init_1 3 rfl rfl)
theorem dX2_init_26 : decode cX2_init 26 = .ok (.iload 4, 2) := dk_21 4 (dk_at dksX2_init_1 4 rfl rfl)
theorem dX2_init_28 : decode cX2_init 28 = .ok (.putfield 24, 3) := dk_181 0 24 (dk_at dksX2_init_1 6 rfl rfl)
theorem dX2_init_31 : decode cX2_init 31 = .ok (.aload_n 0, 1) := dk_42 (dk_at dksX2_init_1 9 rfl rfl)
theorem dX2_init_32 : decode cX2_init 32 = .ok (.iload 5, 2) := dk_21 5 (dk_at dksX2_init_1 10 rfl rfl)
theorem dX2_init_34 : decode cX2_init 34 = .ok (.putfield 27, 3) := dk_181 0 27 (dk_at dksX2_init_1 12 rfl rfl)
theorem dX2_init_37 : decode cX2_init 37 = .ok (.aload_n 0, 1) := dk_42 (dk_at dksX2_init_1 15 rfl rfl)
theorem dX2_init_38 : decode cX2_init 38 = .ok (.iload 6, 2) := dk_21 6 (dk_at dksX2_init_1 16 rfl rfl)
theorem dX2_init_40 : decode cX2_init 40 = .ok (.putfield 30, 3) := dk_181 0 30 (dk_at dksX2_init_1 18 rfl rfl)
theorem dX2_init_43 : decode cX2_init 43 = .ok (.aload_n 0, 1) := dk_42 (dk_at dksX2_init_1 21 rfl rfl)
theorem dX2_init_44 : decode cX2_init 44 = .ok (.iload 7, 2) := dk_21 7 (dk_at dksX2_init_1 22 rfl rfl)
theorem dX2_init_46 : decode cX2_init 46 = .ok (.putfield 33, 3) := dk_181 0 33 (dk_at dksX2_init_2 0 rfl rfl)
theorem dX2_init_49 : decode cX2_init 49 = .ok (.return_, 1) := dk_177 (dk_at dksX2_init_2 3 rfl rfl)
abbrev cX2_copied : ByteArray := prog_10_method_2_code
def yX2_copied : MethodName := ⟨RX2, "copied", "()LLandFolio$Parcel;"⟩
def dkwX2_copied_2 : List UInt8 := [180, 0, 39, 181, 0, 39, 43, 176]
abbrev dktX2_copied_2 : List UInt8 := dkwX2_copied_2 ++ []
def dkwX2_copied_1 : List UInt8 := [42, 180, 0, 30, 42, 180, 0, 33, 183, 0, 36, 76, 43, 42, 180, 0, 9, 181, 0, 9, 43, 42]
abbrev dktX2_copied_1 : List UInt8 := dkwX2_copied_1 ++ dktX2_copied_2
def dkwX2_copied_0 : List UInt8 := [187, 0, 10, 89, 42, 180, 0, 15, 42, 180, 0, 18, 42, 180, 0, 21, 42, 180, 0, 24, 42, 180, 0, 27]
abbrev dktX2_copied_0 : List UInt8 := dkwX2_copied_0 ++ dktX2_copied_1
theorem dksX2_copied_0 : cX2_copied.data.toList.drop 0 = dktX2_copied_0 := by decide +kernel
theorem dksX2_copied_1 : cX2_copied.data.toList.drop 24 = dktX2_copied_1 := dk_seg dksX2_copied_0 24 rfl rfl
theorem dksX2_copied_2 : cX2_copied.data.toList.drop 46 = dktX2_copied_2 := dk_seg dksX2_copied_1 22 rfl rfl
theorem dX2_copied_0 : decode cX2_copied 0 = .ok (.new 10, 3) := dk_187 0 10 (dk_at dksX2_copied_0 0 rfl rfl)
theorem dX2_copied_3 : decode cX2_copied 3 = .ok (.dup, 1) := dk_89 (dk_at dksX2_copied_0 3 rfl rfl)
theorem dX2_copied_4 : decode cX2_copied 4 = .ok (.aload_n 0, 1) := dk_42 (dk_at dksX2_copied_0 4 rfl rfl)
theorem dX2_copied_5 : decode cX2_copied 5 = .ok (.getfield 15, 3) := dk_180 0 15 (dk_at dksX2_copied_0 5 rfl rfl)
theorem dX2_copied_8 : decode cX2_copied 8 = .ok (.aload_n 0, 1) := dk_42 (dk_at dksX2_copied_0 8 rfl rfl)
theorem dX2_copied_9 : decode cX2_copied 9 = .ok (.getfield 18, 3) := dk_180 0 18 (dk_at dksX2_copied_0 9 rfl rfl)
theorem dX2_copied_12 : decode cX2_copied 12 = .ok (.aload_n 0, 1) := dk_42 (dk_at dksX2_copied_0 12 rfl rfl)
theorem dX2_copied_13 : decode cX2_copied 13 = .ok (.getfield 21, 3) := dk_180 0 21 (dk_at dksX2_copied_0 13 rfl rfl)
theorem dX2_copied_16 : decode cX2_copied 16 = .ok (.aload_n 0, 1) := dk_42 (dk_at dksX2_copied_0 16 rfl rfl)
theorem dX2_copied_17 : decode cX2_copied 17 = .ok (.getfield 24, 3) := dk_180 0 24 (dk_at dksX2_copied_0 17 rfl rfl)
theorem dX2_copied_20 : decode cX2_copied 20 = .ok (.aload_n 0, 1) := dk_42 (dk_at dksX2_copied_0 20 rfl rfl)
theorem dX2_copied_21 : decode cX2_copied 21 = .ok (.getfield 27, 3) := dk_180 0 27 (dk_at dksX2_copied_0 21 rfl rfl)
theorem dX2_copied_24 : decode cX2_copied 24 = .ok (.aload_n 0, 1) := dk_42 (dk_at dksX2_copied_1 0 rfl rfl)
theorem dX2_copied_25 : decode cX2_copied 25 = .ok (.getfield 30, 3) := dk_180 0 30 (dk_at dksX2_copied_1 1 rfl rfl)
theorem dX2_copied_28 : decode cX2_copied 28 = .ok (.aload_n 0, 1) := dk_42 (dk_at dksX2_copied_1 4 rfl rfl)
theorem dX2_copied_29 : decode cX2_copied 29 = .ok (.getfield 33, 3) := dk_180 0 33 (dk_at dksX2_copied_1 5 rfl rfl)
theorem dX2_copied_32 : decode cX2_copied 32 = .ok (.invokespecial 36, 3) := dk_183 0 36 (dk_at dksX2_copied_1 8 rfl rfl)
theorem dX2_copied_35 : decode cX2_copied 35 = .ok (.astore_n 1, 1) := dk_76 (dk_at dksX2_copied_1 11 rfl rfl)
theorem dX2_copied_36 : decode cX2_copied 36 = .ok (.aload_n 1, 1) := dk_43 (dk_at dksX2_copied_1 12 rfl rfl)
theorem dX2_copied_37 : decode cX2_copied 37 = .ok (.aload_n 0, 1) := dk_42 (dk_at dksX2_copied_1 13 rfl rfl)
theorem dX2_copied_38 : decode cX2_copied 38 = .ok (.getfield 9, 3) := dk_180 0 9 (dk_at dksX2_copied_1 14 rfl rfl)
theorem dX2_copied_41 : decode cX2_copied 41 = .ok (.putfield 9, 3) := dk_181 0 9 (dk_at dksX2_copied_1 17 rfl rfl)
theorem dX2_copied_44 : decode cX2_copied 44 = .ok (.aload_n 1, 1) := dk_43 (dk_at dksX2_copied_1 20 rfl rfl)
theorem dX2_copied_45 : decode cX2_copied 45 = .ok (.aload_n 0, 1) := dk_42 (dk_at dksX2_copied_1 21 rfl rfl)
theorem dX2_copied_46 : decode cX2_copied 46 = .ok (.getfield 39, 3) := dk_180 0 39 (dk_at dksX2_copied_2 0 rfl rfl)
theorem dX2_copied_49 : decode cX2_copied 49 = .ok (.putfield 39, 3) := dk_181 0 39 (dk_at dksX2_copied_2 3 rfl rfl)
theorem dX2_copied_52 : decode cX2_copied 52 = .ok (.aload_n 1, 1) := dk_43 (dk_at dksX2_copied_2 6 rfl rfl)
theorem dX2_copied_53 : decode cX2_copied 53 = .ok (.areturn, 1) := dk_176 (dk_at dksX2_copied_2 7 rfl rfl)
abbrev cX2_isLive : ByteArray := prog_10_method_3_code
def yX2_isLive : MethodName := ⟨RX2, "isLive", "()Z"⟩
def dkwX2_isLive_0 : List UInt8 := [42, 180, 0, 9, 156, 0, 7, 4, 167, 0, 4, 3, 172]
abbrev dktX2_isLive_0 : List UInt8 := dkwX2_isLive_0 ++ []
theorem dksX2_isLive_0 : cX2_isLive.data.toList.drop 0 = dktX2_isLive_0 := by decide +kernel
theorem dX2_isLive_0 : decode cX2_isLive 0 = .ok (.aload_n 0, 1) := dk_42 (dk_at dksX2_isLive_0 0 rfl rfl)
theorem dX2_isLive_1 : decode cX2_isLive 1 = .ok (.getfield 9, 3) := dk_180 0 9 (dk_at dksX2_isLive_0 1 rfl rfl)
theorem dX2_isLive_4 : decode cX2_isLive 4 = .ok (.ifCond .ge 7, 3) := dk_156 0 7 (dk_at dksX2_isLive_0 4 rfl rfl)
theorem dX2_isLive_7 : decode cX2_isLive 7 = .ok (.iconst 1, 1) := dk_4 (dk_at dksX2_isLive_0 7 rfl rfl)
theorem dX2_isLive_8 : decode cX2_isLive 8 = .ok (.goto 4, 3) := dk_167 0 4 (dk_at dksX2_isLive_0 8 rfl rfl)
theorem dX2_isLive_11 : decode cX2_isLive 11 = .ok (.iconst 0, 1) := dk_3 (dk_at dksX2_isLive_0 11 rfl rfl)
theorem dX2_isLive_12 : decode cX2_isLive 12 = .ok (.ireturn, 1) := dk_172 (dk_at dksX2_isLive_0 12 rfl rfl)
abbrev cX2_has : ByteArray := prog_10_method_5_code
def yX2_has : MethodName := ⟨RX2, "has", "(II)Z"⟩
def dkwX2_has_2 : List UInt8 := [3, 172]
abbrev dktX2_has_2 : List UInt8 := dkwX2_has_2 ++ []
def dkwX2_has_1 : List UInt8 := [180, 0, 18, 42, 180, 0, 18, 42, 180, 0, 24, 96, 4, 100, 184, 0, 43, 153, 0, 7, 4, 167, 0, 4]
abbrev dktX2_has_1 : List UInt8 := dkwX2_has_1 ++ dktX2_has_2
def dkwX2_has_0 : List UInt8 := [27, 42, 180, 0, 15, 42, 180, 0, 15, 42, 180, 0, 21, 96, 4, 100, 184, 0, 43, 153, 0, 29, 28, 42]
abbrev dktX2_has_0 : List UInt8 := dkwX2_has_0 ++ dktX2_has_1
theorem dksX2_has_0 : cX2_has.data.toList.drop 0 = dktX2_has_0 := by decide +kernel
theorem dksX2_has_1 : cX2_has.data.toList.drop 24 = dktX2_has_1 := dk_seg dksX2_has_0 24 rfl rfl
theorem dksX2_has_2 : cX2_has.data.toList.drop 48 = dktX2_has_2 := dk_seg dksX2_has_1 24 rfl rfl
theorem dX2_has_0 : decode cX2_has 0 = .ok (.iload_n 1, 1) := dk_27 (dk_at dksX2_has_0 0 rfl rfl)
theorem dX2_has_1 : decode cX2_has 1 = .ok (.aload_n 0, 1) := dk_42 (dk_at dksX2_has_0 1 rfl rfl)
theorem dX2_has_2 : decode cX2_has 2 = .ok (.getfield 15, 3) := dk_180 0 15 (dk_at dksX2_has_0 2 rfl rfl)
theorem dX2_has_5 : decode cX2_has 5 = .ok (.aload_n 0, 1) := dk_42 (dk_at dksX2_has_0 5 rfl rfl)
theorem dX2_has_6 : decode cX2_has 6 = .ok (.getfield 15, 3) := dk_180 0 15 (dk_at dksX2_has_0 6 rfl rfl)
theorem dX2_has_9 : decode cX2_has 9 = .ok (.aload_n 0, 1) := dk_42 (dk_at dksX2_has_0 9 rfl rfl)
theorem dX2_has_10 : decode cX2_has 10 = .ok (.getfield 21, 3) := dk_180 0 21 (dk_at dksX2_has_0 10 rfl rfl)
theorem dX2_has_13 : decode cX2_has 13 = .ok (.iadd, 1) := dk_96 (dk_at dksX2_has_0 13 rfl rfl)
theorem dX2_has_14 : decode cX2_has 14 = .ok (.iconst 1, 1) := dk_4 (dk_at dksX2_has_0 14 rfl rfl)
theorem dX2_has_15 : decode cX2_has 15 = .ok (.isub, 1) := dk_100 (dk_at dksX2_has_0 15 rfl rfl)
theorem dX2_has_16 : decode cX2_has 16 = .ok (.invokestatic 43, 3) := dk_184 0 43 (dk_at dksX2_has_0 16 rfl rfl)
theorem dX2_has_19 : decode cX2_has 19 = .ok (.ifCond .eq 29, 3) := dk_153 0 29 (dk_at dksX2_has_0 19 rfl rfl)
theorem dX2_has_22 : decode cX2_has 22 = .ok (.iload_n 2, 1) := dk_28 (dk_at dksX2_has_0 22 rfl rfl)
theorem dX2_has_23 : decode cX2_has 23 = .ok (.aload_n 0, 1) := dk_42 (dk_at dksX2_has_0 23 rfl rfl)
theorem dX2_has_24 : decode cX2_has 24 = .ok (.getfield 18, 3) := dk_180 0 18 (dk_at dksX2_has_1 0 rfl rfl)
theorem dX2_has_27 : decode cX2_has 27 = .ok (.aload_n 0, 1) := dk_42 (dk_at dksX2_has_1 3 rfl rfl)
theorem dX2_has_28 : decode cX2_has 28 = .ok (.getfield 18, 3) := dk_180 0 18 (dk_at dksX2_has_1 4 rfl rfl)
theorem dX2_has_31 : decode cX2_has 31 = .ok (.aload_n 0, 1) := dk_42 (dk_at dksX2_has_1 7 rfl rfl)
theorem dX2_has_32 : decode cX2_has 32 = .ok (.getfield 24, 3) := dk_180 0 24 (dk_at dksX2_has_1 8 rfl rfl)
theorem dX2_has_35 : decode cX2_has 35 = .ok (.iadd, 1) := dk_96 (dk_at dksX2_has_1 11 rfl rfl)
theorem dX2_has_36 : decode cX2_has 36 = .ok (.iconst 1, 1) := dk_4 (dk_at dksX2_has_1 12 rfl rfl)
theorem dX2_has_37 : decode cX2_has 37 = .ok (.isub, 1) := dk_100 (dk_at dksX2_has_1 13 rfl rfl)
theorem dX2_has_38 : decode cX2_has 38 = .ok (.invokestatic 43, 3) := dk_184 0 43 (dk_at dksX2_has_1 14 rfl rfl)
theorem dX2_has_41 : decode cX2_has 41 = .ok (.ifCond .eq 7, 3) := dk_153 0 7 (dk_at dksX2_has_1 17 rfl rfl)
theorem dX2_has_44 : decode cX2_has 44 = .ok (.iconst 1, 1) := dk_4 (dk_at dksX2_has_1 20 rfl rfl)
theorem dX2_has_45 : decode cX2_has 45 = .ok (.goto 4, 3) := dk_167 0 4 (dk_at dksX2_has_1 21 rfl rfl)
theorem dX2_has_48 : decode cX2_has 48 = .ok (.iconst 0, 1) := dk_3 (dk_at dksX2_has_2 0 rfl rfl)
theorem dX2_has_49 : decode cX2_has 49 = .ok (.ireturn, 1) := dk_172 (dk_at dksX2_has_2 1 rfl rfl)
abbrev cX2_makesOblong : ByteArray := prog_10_method_9_code
def yX2_makesOblong : MethodName := ⟨RX2, "makesOblong", "(LLandFolio$Parcel;)Z"⟩
def dkwX2_makesOblong_3 : List UInt8 := [160, 0, 7, 4, 167, 0, 4, 3, 62, 28, 154, 0, 7, 29, 153, 0, 7, 4, 167, 0, 4, 3, 172]
abbrev dktX2_makesOblong_3 : List UInt8 := dkwX2_makesOblong_3 ++ []
def dkwX2_makesOblong_2 : List UInt8 := [160, 0, 30, 42, 180, 0, 24, 43, 180, 0, 24, 160, 0, 19, 42, 43, 182, 0, 60, 42, 180, 0, 24]
abbrev dktX2_makesOblong_2 : List UInt8 := dkwX2_makesOblong_2 ++ dktX2_makesOblong_3
def dkwX2_makesOblong_1 : List UInt8 := [182, 0, 60, 42, 180, 0, 21, 160, 0, 7, 4, 167, 0, 4, 3, 61, 42, 180, 0, 18, 43, 180, 0, 18]
abbrev dktX2_makesOblong_1 : List UInt8 := dkwX2_makesOblong_1 ++ dktX2_makesOblong_2
def dkwX2_makesOblong_0 : List UInt8 := [42, 180, 0, 15, 43, 180, 0, 15, 160, 0, 30, 42, 180, 0, 21, 43, 180, 0, 21, 160, 0, 19, 42, 43]
abbrev dktX2_makesOblong_0 : List UInt8 := dkwX2_makesOblong_0 ++ dktX2_makesOblong_1
theorem dksX2_makesOblong_0 : cX2_makesOblong.data.toList.drop 0 = dktX2_makesOblong_0 := by decide +kernel
theorem dksX2_makesOblong_1 : cX2_makesOblong.data.toList.drop 24 = dktX2_makesOblong_1 := dk_seg dksX2_makesOblong_0 24 rfl rfl
theorem dksX2_makesOblong_2 : cX2_makesOblong.data.toList.drop 48 = dktX2_makesOblong_2 := dk_seg dksX2_makesOblong_1 24 rfl rfl
theorem dksX2_makesOblong_3 : cX2_makesOblong.data.toList.drop 71 = dktX2_makesOblong_3 := dk_seg dksX2_makesOblong_2 23 rfl rfl
theorem dX2_makesOblong_0 : decode cX2_makesOblong 0 = .ok (.aload_n 0, 1) := dk_42 (dk_at dksX2_makesOblong_0 0 rfl rfl)
theorem dX2_makesOblong_1 : decode cX2_makesOblong 1 = .ok (.getfield 15, 3) := dk_180 0 15 (dk_at dksX2_makesOblong_0 1 rfl rfl)
theorem dX2_makesOblong_4 : decode cX2_makesOblong 4 = .ok (.aload_n 1, 1) := dk_43 (dk_at dksX2_makesOblong_0 4 rfl rfl)
theorem dX2_makesOblong_5 : decode cX2_makesOblong 5 = .ok (.getfield 15, 3) := dk_180 0 15 (dk_at dksX2_makesOblong_0 5 rfl rfl)
theorem dX2_makesOblong_8 : decode cX2_makesOblong 8 = .ok (.if_icmp .ne 30, 3) := dk_160 0 30 (dk_at dksX2_makesOblong_0 8 rfl rfl)
theorem dX2_makesOblong_11 : decode cX2_makesOblong 11 = .ok (.aload_n 0, 1) := dk_42 (dk_at dksX2_makesOblong_0 11 rfl rfl)
theorem dX2_makesOblong_12 : decode cX2_makesOblong 12 = .ok (.getfield 21, 3) := dk_180 0 21 (dk_at dksX2_makesOblong_0 12 rfl rfl)
theorem dX2_makesOblong_15 : decode cX2_makesOblong 15 = .ok (.aload_n 1, 1) := dk_43 (dk_at dksX2_makesOblong_0 15 rfl rfl)
theorem dX2_makesOblong_16 : decode cX2_makesOblong 16 = .ok (.getfield 21, 3) := dk_180 0 21 (dk_at dksX2_makesOblong_0 16 rfl rfl)
theorem dX2_makesOblong_19 : decode cX2_makesOblong 19 = .ok (.if_icmp .ne 19, 3) := dk_160 0 19 (dk_at dksX2_makesOblong_0 19 rfl rfl)
theorem dX2_makesOblong_22 : decode cX2_makesOblong 22 = .ok (.aload_n 0, 1) := dk_42 (dk_at dksX2_makesOblong_0 22 rfl rfl)
theorem dX2_makesOblong_23 : decode cX2_makesOblong 23 = .ok (.aload_n 1, 1) := dk_43 (dk_at dksX2_makesOblong_0 23 rfl rfl)
theorem dX2_makesOblong_24 : decode cX2_makesOblong 24 = .ok (.invokevirtual 60, 3) := dk_182 0 60 (dk_at dksX2_makesOblong_1 0 rfl rfl)
theorem dX2_makesOblong_27 : decode cX2_makesOblong 27 = .ok (.aload_n 0, 1) := dk_42 (dk_at dksX2_makesOblong_1 3 rfl rfl)
theorem dX2_makesOblong_28 : decode cX2_makesOblong 28 = .ok (.getfield 21, 3) := dk_180 0 21 (dk_at dksX2_makesOblong_1 4 rfl rfl)
theorem dX2_makesOblong_31 : decode cX2_makesOblong 31 = .ok (.if_icmp .ne 7, 3) := dk_160 0 7 (dk_at dksX2_makesOblong_1 7 rfl rfl)
theorem dX2_makesOblong_34 : decode cX2_makesOblong 34 = .ok (.iconst 1, 1) := dk_4 (dk_at dksX2_makesOblong_1 10 rfl rfl)
theorem dX2_makesOblong_35 : decode cX2_makesOblong 35 = .ok (.goto 4, 3) := dk_167 0 4 (dk_at dksX2_makesOblong_1 11 rfl rfl)
theorem dX2_makesOblong_38 : decode cX2_makesOblong 38 = .ok (.iconst 0, 1) := dk_3 (dk_at dksX2_makesOblong_1 14 rfl rfl)
theorem dX2_makesOblong_39 : decode cX2_makesOblong 39 = .ok (.istore_n 2, 1) := dk_61 (dk_at dksX2_makesOblong_1 15 rfl rfl)
theorem dX2_makesOblong_40 : decode cX2_makesOblong 40 = .ok (.aload_n 0, 1) := dk_42 (dk_at dksX2_makesOblong_1 16 rfl rfl)
theorem dX2_makesOblong_41 : decode cX2_makesOblong 41 = .ok (.getfield 18, 3) := dk_180 0 18 (dk_at dksX2_makesOblong_1 17 rfl rfl)
theorem dX2_makesOblong_44 : decode cX2_makesOblong 44 = .ok (.aload_n 1, 1) := dk_43 (dk_at dksX2_makesOblong_1 20 rfl rfl)
theorem dX2_makesOblong_45 : decode cX2_makesOblong 45 = .ok (.getfield 18, 3) := dk_180 0 18 (dk_at dksX2_makesOblong_1 21 rfl rfl)
theorem dX2_makesOblong_48 : decode cX2_makesOblong 48 = .ok (.if_icmp .ne 30, 3) := dk_160 0 30 (dk_at dksX2_makesOblong_2 0 rfl rfl)
theorem dX2_makesOblong_51 : decode cX2_makesOblong 51 = .ok (.aload_n 0, 1) := dk_42 (dk_at dksX2_makesOblong_2 3 rfl rfl)
theorem dX2_makesOblong_52 : decode cX2_makesOblong 52 = .ok (.getfield 24, 3) := dk_180 0 24 (dk_at dksX2_makesOblong_2 4 rfl rfl)
theorem dX2_makesOblong_55 : decode cX2_makesOblong 55 = .ok (.aload_n 1, 1) := dk_43 (dk_at dksX2_makesOblong_2 7 rfl rfl)
theorem dX2_makesOblong_56 : decode cX2_makesOblong 56 = .ok (.getfield 24, 3) := dk_180 0 24 (dk_at dksX2_makesOblong_2 8 rfl rfl)
theorem dX2_makesOblong_59 : decode cX2_makesOblong 59 = .ok (.if_icmp .ne 19, 3) := dk_160 0 19 (dk_at dksX2_makesOblong_2 11 rfl rfl)
theorem dX2_makesOblong_62 : decode cX2_makesOblong 62 = .ok (.aload_n 0, 1) := dk_42 (dk_at dksX2_makesOblong_2 14 rfl rfl)
theorem dX2_makesOblong_63 : decode cX2_makesOblong 63 = .ok (.aload_n 1, 1) := dk_43 (dk_at dksX2_makesOblong_2 15 rfl rfl)
theorem dX2_makesOblong_64 : decode cX2_makesOblong 64 = .ok (.invokevirtual 60, 3) := dk_182 0 60 (dk_at dksX2_makesOblong_2 16 rfl rfl)
theorem dX2_makesOblong_67 : decode cX2_makesOblong 67 = .ok (.aload_n 0, 1) := dk_42 (dk_at dksX2_makesOblong_2 19 rfl rfl)
theorem dX2_makesOblong_68 : decode cX2_makesOblong 68 = .ok (.getfield 24, 3) := dk_180 0 24 (dk_at dksX2_makesOblong_2 20 rfl rfl)
theorem dX2_makesOblong_71 : decode cX2_makesOblong 71 = .ok (.if_icmp .ne 7, 3) := dk_160 0 7 (dk_at dksX2_makesOblong_3 0 rfl rfl)
theorem dX2_makesOblong_74 : decode cX2_makesOblong 74 = .ok (.iconst 1, 1) := dk_4 (dk_at dksX2_makesOblong_3 3 rfl rfl)
theorem dX2_makesOblong_75 : decode cX2_makesOblong 75 = .ok (.goto 4, 3) := dk_167 0 4 (dk_at dksX2_makesOblong_3 4 rfl rfl)
theorem dX2_makesOblong_78 : decode cX2_makesOblong 78 = .ok (.iconst 0, 1) := dk_3 (dk_at dksX2_makesOblong_3 7 rfl rfl)
theorem dX2_makesOblong_79 : decode cX2_makesOblong 79 = .ok (.istore_n 3, 1) := dk_62 (dk_at dksX2_makesOblong_3 8 rfl rfl)
theorem dX2_makesOblong_80 : decode cX2_makesOblong 80 = .ok (.iload_n 2, 1) := dk_28 (dk_at dksX2_makesOblong_3 9 rfl rfl)
theorem dX2_makesOblong_81 : decode cX2_makesOblong 81 = .ok (.ifCond .ne 7, 3) := dk_154 0 7 (dk_at dksX2_makesOblong_3 10 rfl rfl)
theorem dX2_makesOblong_84 : decode cX2_makesOblong 84 = .ok (.iload_n 3, 1) := dk_29 (dk_at dksX2_makesOblong_3 13 rfl rfl)
theorem dX2_makesOblong_85 : decode cX2_makesOblong 85 = .ok (.ifCond .eq 7, 3) := dk_153 0 7 (dk_at dksX2_makesOblong_3 14 rfl rfl)
theorem dX2_makesOblong_88 : decode cX2_makesOblong 88 = .ok (.iconst 1, 1) := dk_4 (dk_at dksX2_makesOblong_3 17 rfl rfl)
theorem dX2_makesOblong_89 : decode cX2_makesOblong 89 = .ok (.goto 4, 3) := dk_167 0 4 (dk_at dksX2_makesOblong_3 18 rfl rfl)
theorem dX2_makesOblong_92 : decode cX2_makesOblong 92 = .ok (.iconst 0, 1) := dk_3 (dk_at dksX2_makesOblong_3 21 rfl rfl)
theorem dX2_makesOblong_93 : decode cX2_makesOblong 93 = .ok (.ireturn, 1) := dk_172 (dk_at dksX2_makesOblong_3 22 rfl rfl)
abbrev cX2_edge : ByteArray := prog_10_method_8_code
def yX2_edge : MethodName := ⟨RX2, "edge", "(LLandFolio$Parcel;)I"⟩
def dkwX2_edge_2 : List UInt8 := [29, 167, 0, 16, 29, 154, 0, 11, 28, 158, 0, 7, 28, 167, 0, 4, 3, 172]
abbrev dktX2_edge_2 : List UInt8 := dkwX2_edge_2 ++ []
def dkwX2_edge_1 : List UInt8 := [42, 180, 0, 24, 43, 180, 0, 18, 43, 180, 0, 24, 184, 0, 56, 62, 28, 154, 0, 11, 29, 158, 0, 7]
abbrev dktX2_edge_1 : List UInt8 := dkwX2_edge_1 ++ dktX2_edge_2
def dkwX2_edge_0 : List UInt8 := [42, 180, 0, 15, 42, 180, 0, 21, 43, 180, 0, 15, 43, 180, 0, 21, 184, 0, 56, 61, 42, 180, 0, 18]
abbrev dktX2_edge_0 : List UInt8 := dkwX2_edge_0 ++ dktX2_edge_1
theorem dksX2_edge_0 : cX2_edge.data.toList.drop 0 = dktX2_edge_0 := by decide +kernel
theorem dksX2_edge_1 : cX2_edge.data.toList.drop 24 = dktX2_edge_1 := dk_seg dksX2_edge_0 24 rfl rfl
theorem dksX2_edge_2 : cX2_edge.data.toList.drop 48 = dktX2_edge_2 := dk_seg dksX2_edge_1 24 rfl rfl
theorem dX2_edge_0 : decode cX2_edge 0 = .ok (.aload_n 0, 1) := dk_42 (dk_at dksX2_edge_0 0 rfl rfl)
theorem dX2_edge_1 : decode cX2_edge 1 = .ok (.getfield 15, 3) := dk_180 0 15 (dk_at dksX2_edge_0 1 rfl rfl)
theorem dX2_edge_4 : decode cX2_edge 4 = .ok (.aload_n 0, 1) := dk_42 (dk_at dksX2_edge_0 4 rfl rfl)
theorem dX2_edge_5 : decode cX2_edge 5 = .ok (.getfield 21, 3) := dk_180 0 21 (dk_at dksX2_edge_0 5 rfl rfl)
theorem dX2_edge_8 : decode cX2_edge 8 = .ok (.aload_n 1, 1) := dk_43 (dk_at dksX2_edge_0 8 rfl rfl)
theorem dX2_edge_9 : decode cX2_edge 9 = .ok (.getfield 15, 3) := dk_180 0 15 (dk_at dksX2_edge_0 9 rfl rfl)
theorem dX2_edge_12 : decode cX2_edge 12 = .ok (.aload_n 1, 1) := dk_43 (dk_at dksX2_edge_0 12 rfl rfl)
theorem dX2_edge_13 : decode cX2_edge 13 = .ok (.getfield 21, 3) := dk_180 0 21 (dk_at dksX2_edge_0 13 rfl rfl)
theorem dX2_edge_16 : decode cX2_edge 16 = .ok (.invokestatic 56, 3) := dk_184 0 56 (dk_at dksX2_edge_0 16 rfl rfl)
theorem dX2_edge_19 : decode cX2_edge 19 = .ok (.istore_n 2, 1) := dk_61 (dk_at dksX2_edge_0 19 rfl rfl)
theorem dX2_edge_20 : decode cX2_edge 20 = .ok (.aload_n 0, 1) := dk_42 (dk_at dksX2_edge_0 20 rfl rfl)
theorem dX2_edge_21 : decode cX2_edge 21 = .ok (.getfield 18, 3) := dk_180 0 18 (dk_at dksX2_edge_0 21 rfl rfl)
theorem dX2_edge_24 : decode cX2_edge 24 = .ok (.aload_n 0, 1) := dk_42 (dk_at dksX2_edge_1 0 rfl rfl)
theorem dX2_edge_25 : decode cX2_edge 25 = .ok (.getfield 24, 3) := dk_180 0 24 (dk_at dksX2_edge_1 1 rfl rfl)
theorem dX2_edge_28 : decode cX2_edge 28 = .ok (.aload_n 1, 1) := dk_43 (dk_at dksX2_edge_1 4 rfl rfl)
theorem dX2_edge_29 : decode cX2_edge 29 = .ok (.getfield 18, 3) := dk_180 0 18 (dk_at dksX2_edge_1 5 rfl rfl)
theorem dX2_edge_32 : decode cX2_edge 32 = .ok (.aload_n 1, 1) := dk_43 (dk_at dksX2_edge_1 8 rfl rfl)
theorem dX2_edge_33 : decode cX2_edge 33 = .ok (.getfield 24, 3) := dk_180 0 24 (dk_at dksX2_edge_1 9 rfl rfl)
theorem dX2_edge_36 : decode cX2_edge 36 = .ok (.invokestatic 56, 3) := dk_184 0 56 (dk_at dksX2_edge_1 12 rfl rfl)
theorem dX2_edge_39 : decode cX2_edge 39 = .ok (.istore_n 3, 1) := dk_62 (dk_at dksX2_edge_1 15 rfl rfl)
theorem dX2_edge_40 : decode cX2_edge 40 = .ok (.iload_n 2, 1) := dk_28 (dk_at dksX2_edge_1 16 rfl rfl)
theorem dX2_edge_41 : decode cX2_edge 41 = .ok (.ifCond .ne 11, 3) := dk_154 0 11 (dk_at dksX2_edge_1 17 rfl rfl)
theorem dX2_edge_44 : decode cX2_edge 44 = .ok (.iload_n 3, 1) := dk_29 (dk_at dksX2_edge_1 20 rfl rfl)
theorem dX2_edge_45 : decode cX2_edge 45 = .ok (.ifCond .le 7, 3) := dk_158 0 7 (dk_at dksX2_edge_1 21 rfl rfl)
theorem dX2_edge_48 : decode cX2_edge 48 = .ok (.iload_n 3, 1) := dk_29 (dk_at dksX2_edge_2 0 rfl rfl)
theorem dX2_edge_49 : decode cX2_edge 49 = .ok (.goto 16, 3) := dk_167 0 16 (dk_at dksX2_edge_2 1 rfl rfl)
theorem dX2_edge_52 : decode cX2_edge 52 = .ok (.iload_n 3, 1) := dk_29 (dk_at dksX2_edge_2 4 rfl rfl)
theorem dX2_edge_53 : decode cX2_edge 53 = .ok (.ifCond .ne 11, 3) := dk_154 0 11 (dk_at dksX2_edge_2 5 rfl rfl)
theorem dX2_edge_56 : decode cX2_edge 56 = .ok (.iload_n 2, 1) := dk_28 (dk_at dksX2_edge_2 8 rfl rfl)
theorem dX2_edge_57 : decode cX2_edge 57 = .ok (.ifCond .le 7, 3) := dk_158 0 7 (dk_at dksX2_edge_2 9 rfl rfl)
theorem dX2_edge_60 : decode cX2_edge 60 = .ok (.iload_n 2, 1) := dk_28 (dk_at dksX2_edge_2 12 rfl rfl)
theorem dX2_edge_61 : decode cX2_edge 61 = .ok (.goto 4, 3) := dk_167 0 4 (dk_at dksX2_edge_2 13 rfl rfl)
theorem dX2_edge_64 : decode cX2_edge 64 = .ok (.iconst 0, 1) := dk_3 (dk_at dksX2_edge_2 16 rfl rfl)
theorem dX2_edge_65 : decode cX2_edge 65 = .ok (.ireturn, 1) := dk_172 (dk_at dksX2_edge_2 17 rfl rfl)
abbrev cX2_common : ByteArray := prog_10_method_7_code
def yX2_common : MethodName := ⟨RX2, "common", "(IIII)I"⟩
def dkwX2_common_0 : List UInt8 := [26, 27, 96, 28, 29, 96, 184, 0, 47, 26, 28, 184, 0, 53, 100, 172]
abbrev dktX2_common_0 : List UInt8 := dkwX2_common_0 ++ []
theorem dksX2_common_0 : cX2_common.data.toList.drop 0 = dktX2_common_0 := by decide +kernel
theorem dX2_common_0 : decode cX2_common 0 = .ok (.iload_n 0, 1) := dk_26 (dk_at dksX2_common_0 0 rfl rfl)
theorem dX2_common_1 : decode cX2_common 1 = .ok (.iload_n 1, 1) := dk_27 (dk_at dksX2_common_0 1 rfl rfl)
theorem dX2_common_2 : decode cX2_common 2 = .ok (.iadd, 1) := dk_96 (dk_at dksX2_common_0 2 rfl rfl)
theorem dX2_common_3 : decode cX2_common 3 = .ok (.iload_n 2, 1) := dk_28 (dk_at dksX2_common_0 3 rfl rfl)
theorem dX2_common_4 : decode cX2_common 4 = .ok (.iload_n 3, 1) := dk_29 (dk_at dksX2_common_0 4 rfl rfl)
theorem dX2_common_5 : decode cX2_common 5 = .ok (.iadd, 1) := dk_96 (dk_at dksX2_common_0 5 rfl rfl)
theorem dX2_common_6 : decode cX2_common 6 = .ok (.invokestatic 47, 3) := dk_184 0 47 (dk_at dksX2_common_0 6 rfl rfl)
theorem dX2_common_9 : decode cX2_common 9 = .ok (.iload_n 0, 1) := dk_26 (dk_at dksX2_common_0 9 rfl rfl)
theorem dX2_common_10 : decode cX2_common 10 = .ok (.iload_n 2, 1) := dk_28 (dk_at dksX2_common_0 10 rfl rfl)
theorem dX2_common_11 : decode cX2_common 11 = .ok (.invokestatic 53, 3) := dk_184 0 53 (dk_at dksX2_common_0 11 rfl rfl)
theorem dX2_common_14 : decode cX2_common 14 = .ok (.isub, 1) := dk_100 (dk_at dksX2_common_0 14 rfl rfl)
theorem dX2_common_15 : decode cX2_common 15 = .ok (.ireturn, 1) := dk_172 (dk_at dksX2_common_0 15 rfl rfl)
abbrev cX2_area : ByteArray := prog_10_method_4_code
def yX2_area : MethodName := ⟨RX2, "area", "()I"⟩
def dkwX2_area_0 : List UInt8 := [42, 180, 0, 21, 42, 180, 0, 24, 104, 172]
abbrev dktX2_area_0 : List UInt8 := dkwX2_area_0 ++ []
theorem dksX2_area_0 : cX2_area.data.toList.drop 0 = dktX2_area_0 := by decide +kernel
theorem dX2_area_0 : decode cX2_area 0 = .ok (.aload_n 0, 1) := dk_42 (dk_at dksX2_area_0 0 rfl rfl)
theorem dX2_area_1 : decode cX2_area 1 = .ok (.getfield 21, 3) := dk_180 0 21 (dk_at dksX2_area_0 1 rfl rfl)
theorem dX2_area_4 : decode cX2_area 4 = .ok (.aload_n 0, 1) := dk_42 (dk_at dksX2_area_0 4 rfl rfl)
theorem dX2_area_5 : decode cX2_area 5 = .ok (.getfield 24, 3) := dk_180 0 24 (dk_at dksX2_area_0 5 rfl rfl)
theorem dX2_area_8 : decode cX2_area 8 = .ok (.imul, 1) := dk_104 (dk_at dksX2_area_0 8 rfl rfl)
theorem dX2_area_9 : decode cX2_area 9 = .ok (.ireturn, 1) := dk_172 (dk_at dksX2_area_0 9 rfl rfl)
abbrev cX2_parentAt : ByteArray := prog_10_method_6_code
def yX2_parentAt : MethodName := ⟨RX2, "parentAt", "(I)I"⟩
def dkwX2_parentAt_1 : List UInt8 := [16, 254, 172]
abbrev dktX2_parentAt_1 : List UInt8 := dkwX2_parentAt_1 ++ []
def dkwX2_parentAt_0 : List UInt8 := [27, 154, 0, 10, 42, 180, 0, 30, 167, 0, 17, 27, 4, 160, 0, 10, 42, 180, 0, 33, 167, 0, 5]
abbrev dktX2_parentAt_0 : List UInt8 := dkwX2_parentAt_0 ++ dktX2_parentAt_1
theorem dksX2_parentAt_0 : cX2_parentAt.data.toList.drop 0 = dktX2_parentAt_0 := by decide +kernel
theorem dksX2_parentAt_1 : cX2_parentAt.data.toList.drop 23 = dktX2_parentAt_1 := dk_seg dksX2_parentAt_0 23 rfl rfl
theorem dX2_parentAt_0 : decode cX2_parentAt 0 = .ok (.iload_n 1, 1) := dk_27 (dk_at dksX2_parentAt_0 0 rfl rfl)
theorem dX2_parentAt_1 : decode cX2_parentAt 1 = .ok (.ifCond .ne 10, 3) := dk_154 0 10 (dk_at dksX2_parentAt_0 1 rfl rfl)
theorem dX2_parentAt_4 : decode cX2_parentAt 4 = .ok (.aload_n 0, 1) := dk_42 (dk_at dksX2_parentAt_0 4 rfl rfl)
theorem dX2_parentAt_5 : decode cX2_parentAt 5 = .ok (.getfield 30, 3) := dk_180 0 30 (dk_at dksX2_parentAt_0 5 rfl rfl)
theorem dX2_parentAt_8 : decode cX2_parentAt 8 = .ok (.goto 17, 3) := dk_167 0 17 (dk_at dksX2_parentAt_0 8 rfl rfl)
theorem dX2_parentAt_11 : decode cX2_parentAt 11 = .ok (.iload_n 1, 1) := dk_27 (dk_at dksX2_parentAt_0 11 rfl rfl)
theorem dX2_parentAt_12 : decode cX2_parentAt 12 = .ok (.iconst 1, 1) := dk_4 (dk_at dksX2_parentAt_0 12 rfl rfl)
theorem dX2_parentAt_13 : decode cX2_parentAt 13 = .ok (.if_icmp .ne 10, 3) := dk_160 0 10 (dk_at dksX2_parentAt_0 13 rfl rfl)
theorem dX2_parentAt_16 : decode cX2_parentAt 16 = .ok (.aload_n 0, 1) := dk_42 (dk_at dksX2_parentAt_0 16 rfl rfl)
theorem dX2_parentAt_17 : decode cX2_parentAt 17 = .ok (.getfield 33, 3) := dk_180 0 33 (dk_at dksX2_parentAt_0 17 rfl rfl)
theorem dX2_parentAt_20 : decode cX2_parentAt 20 = .ok (.goto 5, 3) := dk_167 0 5 (dk_at dksX2_parentAt_0 20 rfl rfl)
theorem dX2_parentAt_23 : decode cX2_parentAt 23 = .ok (.bipush (-2), 2) := dk_16 254 (dk_at dksX2_parentAt_1 0 rfl rfl)
theorem dX2_parentAt_25 : decode cX2_parentAt 25 = .ok (.ireturn, 1) := dk_172 (dk_at dksX2_parentAt_1 2 rfl rfl)
theorem q111 : (Jvm.Cond.initialized "LandFolio$Parcel") ∈ lw_all := lw_g (lw_at lw_m1 10 rfl) rfl
theorem q265 : (Jvm.Cond.selects "LandFolio$Parcel" ({ cls := "java/lang/Object", name := "getClass", desc := "()Ljava/lang/Class;" } : Jvm.MethodName) ({ cls := "java/lang/Object", name := "getClass", desc := "()Ljava/lang/Class;" } : Jvm.MethodName)) ∈ lw_all := lw_g (lw_at lw_m1 164 rfl) rfl
theorem q301 : (Jvm.Cond.instantiable "LandFolio$Parcel" (9 : Nat)) ∈ lw_all := lw_g (lw_at lw_m1 200 rfl) rfl
theorem q303 : (Jvm.Cond.instanceMethod ({ cls := "LandFolio$Parcel", name := "<init>", desc := "(IIIIIII)V" } : Jvm.MethodName)) ∈ lw_all := lw_g (lw_at lw_m1 202 rfl) rfl
theorem q304 : (Jvm.Cond.code ({ cls := "LandFolio$Parcel", name := "<init>", desc := "(IIIIIII)V" } : Jvm.MethodName) prog_10_method_1_code (8 : Nat) (Option.none : Option Jvm.ClassFile.FieldType)) ∈ lw_all := lw_g (lw_at lw_m1 203 rfl) rfl
theorem q305 : (Jvm.Cond.methodLink "LandFolio$Parcel" (3 : Nat) ({ cls := "java/lang/Object", name := "<init>", desc := "()V" } : Jvm.MethodName)) ∈ lw_all := lw_g (lw_at lw_m1 204 rfl) rfl
theorem q306 : (Jvm.Cond.fieldLink "LandFolio$Parcel" (15 : Nat) "LandFolio$Parcel" "x" "I") ∈ lw_all := lw_g (lw_at lw_m1 205 rfl) rfl
theorem q310 : (Jvm.Cond.fieldLink "LandFolio$Parcel" (18 : Nat) "LandFolio$Parcel" "y" "I") ∈ lw_all := lw_g (lw_at lw_m1 209 rfl) rfl
theorem q313 : (Jvm.Cond.fieldLink "LandFolio$Parcel" (21 : Nat) "LandFolio$Parcel" "wide" "I") ∈ lw_all := lw_g (lw_at lw_m1 212 rfl) rfl
theorem q317 : (Jvm.Cond.fieldLink "LandFolio$Parcel" (24 : Nat) "LandFolio$Parcel" "high" "I") ∈ lw_all := lw_g (lw_at lw_m1 216 rfl) rfl
theorem q320 : (Jvm.Cond.fieldLink "LandFolio$Parcel" (27 : Nat) "LandFolio$Parcel" "came" "I") ∈ lw_all := lw_g (lw_at lw_m1 219 rfl) rfl
theorem q322 : (Jvm.Cond.fieldLink "LandFolio$Parcel" (30 : Nat) "LandFolio$Parcel" "parent" "I") ∈ lw_all := lw_g (lw_at lw_m1 221 rfl) rfl
theorem q324 : (Jvm.Cond.fieldLink "LandFolio$Parcel" (33 : Nat) "LandFolio$Parcel" "second" "I") ∈ lw_all := lw_g (lw_at lw_m1 223 rfl) rfl
theorem q326 : (Jvm.Cond.fieldLink "LandFolio$Parcel" (9 : Nat) "LandFolio$Parcel" "went" "I") ∈ lw_all := lw_g (lw_at lw_m1 225 rfl) rfl
theorem q330 : (Jvm.Cond.fieldLink "LandFolio$Parcel" (39 : Nat) "LandFolio$Parcel" "isBarred" "Z") ∈ lw_all := lw_g (lw_at lw_m1 229 rfl) rfl
theorem q333 : (Jvm.Cond.laysFinal "LandFolio$Parcel" "LandFolio$Parcel" "x" "I") ∈ lw_all := lw_g (lw_at lw_m1 232 rfl) rfl
theorem q334 : (Jvm.Cond.soleField "LandFolio$Parcel" "x") ∈ lw_all := lw_g (lw_at lw_m1 233 rfl) rfl
theorem q335 : (Jvm.Cond.laysFinal "LandFolio$Parcel" "LandFolio$Parcel" "y" "I") ∈ lw_all := lw_g (lw_at lw_m1 234 rfl) rfl
theorem q336 : (Jvm.Cond.soleField "LandFolio$Parcel" "y") ∈ lw_all := lw_g (lw_at lw_m1 235 rfl) rfl
theorem q337 : (Jvm.Cond.laysFinal "LandFolio$Parcel" "LandFolio$Parcel" "wide" "I") ∈ lw_all := lw_g (lw_at lw_m1 236 rfl) rfl
theorem q338 : (Jvm.Cond.soleField "LandFolio$Parcel" "wide") ∈ lw_all := lw_g (lw_at lw_m1 237 rfl) rfl
theorem q339 : (Jvm.Cond.laysFinal "LandFolio$Parcel" "LandFolio$Parcel" "high" "I") ∈ lw_all := lw_g (lw_at lw_m1 238 rfl) rfl
theorem q340 : (Jvm.Cond.soleField "LandFolio$Parcel" "high") ∈ lw_all := lw_g (lw_at lw_m1 239 rfl) rfl
theorem q341 : (Jvm.Cond.laysFinal "LandFolio$Parcel" "LandFolio$Parcel" "came" "I") ∈ lw_all := lw_g (lw_at lw_m2 0 rfl) rfl
theorem q342 : (Jvm.Cond.soleField "LandFolio$Parcel" "came") ∈ lw_all := lw_g (lw_at lw_m2 1 rfl) rfl
theorem q343 : (Jvm.Cond.laysFinal "LandFolio$Parcel" "LandFolio$Parcel" "parent" "I") ∈ lw_all := lw_g (lw_at lw_m2 2 rfl) rfl
theorem q344 : (Jvm.Cond.soleField "LandFolio$Parcel" "parent") ∈ lw_all := lw_g (lw_at lw_m2 3 rfl) rfl
theorem q345 : (Jvm.Cond.laysFinal "LandFolio$Parcel" "LandFolio$Parcel" "second" "I") ∈ lw_all := lw_g (lw_at lw_m2 4 rfl) rfl
theorem q346 : (Jvm.Cond.soleField "LandFolio$Parcel" "second") ∈ lw_all := lw_g (lw_at lw_m2 5 rfl) rfl
theorem q347 : (Jvm.Cond.lays "LandFolio$Parcel" "LandFolio$Parcel" "went" "I") ∈ lw_all := lw_g (lw_at lw_m2 6 rfl) rfl
theorem q348 : (Jvm.Cond.soleField "LandFolio$Parcel" "went") ∈ lw_all := lw_g (lw_at lw_m2 7 rfl) rfl
theorem q349 : (Jvm.Cond.lays "LandFolio$Parcel" "LandFolio$Parcel" "isBarred" "Z") ∈ lw_all := lw_g (lw_at lw_m2 8 rfl) rfl
theorem q350 : (Jvm.Cond.soleField "LandFolio$Parcel" "isBarred") ∈ lw_all := lw_g (lw_at lw_m2 9 rfl) rfl
theorem q351 : (Jvm.Cond.superclass "LandFolio$Parcel" "java/lang/Object") ∈ lw_all := lw_g (lw_at lw_m2 10 rfl) rfl
theorem q520 : (Jvm.Cond.instanceMethod ({ cls := "LandFolio$Parcel", name := "copied", desc := "()LLandFolio$Parcel;" } : Jvm.MethodName)) ∈ lw_all := lw_g (lw_at lw_m2 179 rfl) rfl
theorem q521 : (Jvm.Cond.selects "LandFolio$Parcel" ({ cls := "LandFolio$Parcel", name := "copied", desc := "()LLandFolio$Parcel;" } : Jvm.MethodName) ({ cls := "LandFolio$Parcel", name := "copied", desc := "()LLandFolio$Parcel;" } : Jvm.MethodName)) ∈ lw_all := lw_g (lw_at lw_m2 180 rfl) rfl
theorem q522 : (Jvm.Cond.code ({ cls := "LandFolio$Parcel", name := "copied", desc := "()LLandFolio$Parcel;" } : Jvm.MethodName) prog_10_method_2_code (2 : Nat) (Option.some (Jvm.ClassFile.FieldType.object "LandFolio$Parcel"))) ∈ lw_all := lw_g (lw_at lw_m2 181 rfl) rfl
theorem q523 : (Jvm.Cond.classLink "LandFolio$Parcel" (10 : Nat) "LandFolio$Parcel") ∈ lw_all := lw_g (lw_at lw_m2 182 rfl) rfl
theorem q524 : (Jvm.Cond.methodLink "LandFolio$Parcel" (36 : Nat) ({ cls := "LandFolio$Parcel", name := "<init>", desc := "(IIIIIII)V" } : Jvm.MethodName)) ∈ lw_all := lw_g (lw_at lw_m2 183 rfl) rfl
theorem q1146 : (Jvm.Cond.selects "LandFolio$Parcel" ({ cls := "java/lang/Object", name := "equals", desc := "(Ljava/lang/Object;)Z" } : Jvm.MethodName) ({ cls := "java/lang/Object", name := "equals", desc := "(Ljava/lang/Object;)Z" } : Jvm.MethodName)) ∈ lw_all := lw_g (lw_at lw_m5 85 rfl) rfl
theorem q1177 : (Jvm.Cond.instanceMethod ({ cls := "LandFolio$Parcel", name := "isLive", desc := "()Z" } : Jvm.MethodName)) ∈ lw_all := lw_g (lw_at lw_m5 116 rfl) rfl
theorem q1178 : (Jvm.Cond.selects "LandFolio$Parcel" ({ cls := "LandFolio$Parcel", name := "isLive", desc := "()Z" } : Jvm.MethodName) ({ cls := "LandFolio$Parcel", name := "isLive", desc := "()Z" } : Jvm.MethodName)) ∈ lw_all := lw_g (lw_at lw_m5 117 rfl) rfl
theorem q1179 : (Jvm.Cond.code ({ cls := "LandFolio$Parcel", name := "isLive", desc := "()Z" } : Jvm.MethodName) prog_10_method_3_code (1 : Nat) (Option.some Jvm.ClassFile.FieldType.boolean)) ∈ lw_all := lw_g (lw_at lw_m5 118 rfl) rfl
theorem q1221 : (Jvm.Cond.instanceMethod ({ cls := "LandFolio$Parcel", name := "has", desc := "(II)Z" } : Jvm.MethodName)) ∈ lw_all := lw_g (lw_at lw_m5 160 rfl) rfl
theorem q1222 : (Jvm.Cond.selects "LandFolio$Parcel" ({ cls := "LandFolio$Parcel", name := "has", desc := "(II)Z" } : Jvm.MethodName) ({ cls := "LandFolio$Parcel", name := "has", desc := "(II)Z" } : Jvm.MethodName)) ∈ lw_all := lw_g (lw_at lw_m5 161 rfl) rfl
theorem q1223 : (Jvm.Cond.code ({ cls := "LandFolio$Parcel", name := "has", desc := "(II)Z" } : Jvm.MethodName) prog_10_method_5_code (3 : Nat) (Option.some Jvm.ClassFile.FieldType.boolean)) ∈ lw_all := lw_g (lw_at lw_m5 162 rfl) rfl
theorem q1224 : (Jvm.Cond.methodLinkNest "LandFolio$Parcel" (43 : Nat) ({ cls := "LandFolio", name := "isIn", desc := "(III)Z" } : Jvm.MethodName) "LandFolio") ∈ lw_tbl := lw_at lw_m5 163 rfl
theorem q1419 : (Jvm.Cond.instanceMethod ({ cls := "LandFolio$Parcel", name := "makesOblong", desc := "(LLandFolio$Parcel;)Z" } : Jvm.MethodName)) ∈ lw_all := lw_g (lw_at lw_m6 118 rfl) rfl
theorem q1420 : (Jvm.Cond.selects "LandFolio$Parcel" ({ cls := "LandFolio$Parcel", name := "makesOblong", desc := "(LLandFolio$Parcel;)Z" } : Jvm.MethodName) ({ cls := "LandFolio$Parcel", name := "makesOblong", desc := "(LLandFolio$Parcel;)Z" } : Jvm.MethodName)) ∈ lw_all := lw_g (lw_at lw_m6 119 rfl) rfl
theorem q1421 : (Jvm.Cond.code ({ cls := "LandFolio$Parcel", name := "makesOblong", desc := "(LLandFolio$Parcel;)Z" } : Jvm.MethodName) prog_10_method_9_code (4 : Nat) (Option.some Jvm.ClassFile.FieldType.boolean)) ∈ lw_all := lw_g (lw_at lw_m6 120 rfl) rfl
theorem q1422 : (Jvm.Cond.methodLink "LandFolio$Parcel" (60 : Nat) ({ cls := "LandFolio$Parcel", name := "edge", desc := "(LLandFolio$Parcel;)I" } : Jvm.MethodName)) ∈ lw_all := lw_g (lw_at lw_m6 121 rfl) rfl
theorem q1423 : (Jvm.Cond.instanceMethod ({ cls := "LandFolio$Parcel", name := "edge", desc := "(LLandFolio$Parcel;)I" } : Jvm.MethodName)) ∈ lw_all := lw_g (lw_at lw_m6 122 rfl) rfl
theorem q1424 : (Jvm.Cond.selects "LandFolio$Parcel" ({ cls := "LandFolio$Parcel", name := "edge", desc := "(LLandFolio$Parcel;)I" } : Jvm.MethodName) ({ cls := "LandFolio$Parcel", name := "edge", desc := "(LLandFolio$Parcel;)I" } : Jvm.MethodName)) ∈ lw_all := lw_g (lw_at lw_m6 123 rfl) rfl
theorem q1425 : (Jvm.Cond.code ({ cls := "LandFolio$Parcel", name := "edge", desc := "(LLandFolio$Parcel;)I" } : Jvm.MethodName) prog_10_method_8_code (4 : Nat) (Option.some Jvm.ClassFile.FieldType.int)) ∈ lw_all := lw_g (lw_at lw_m6 124 rfl) rfl
theorem q1426 : (Jvm.Cond.methodLink "LandFolio$Parcel" (56 : Nat) ({ cls := "LandFolio$Parcel", name := "common", desc := "(IIII)I" } : Jvm.MethodName)) ∈ lw_all := lw_g (lw_at lw_m6 125 rfl) rfl
theorem q1427 : (Jvm.Cond.static ({ cls := "LandFolio$Parcel", name := "common", desc := "(IIII)I" } : Jvm.MethodName)) ∈ lw_all := lw_g (lw_at lw_m6 126 rfl) rfl
theorem q1428 : (Jvm.Cond.code ({ cls := "LandFolio$Parcel", name := "common", desc := "(IIII)I" } : Jvm.MethodName) prog_10_method_7_code (4 : Nat) (Option.some Jvm.ClassFile.FieldType.int)) ∈ lw_all := lw_g (lw_at lw_m6 127 rfl) rfl
theorem q1429 : (Jvm.Cond.methodLink "LandFolio$Parcel" (47 : Nat) ({ cls := "java/lang/Math", name := "min", desc := "(II)I" } : Jvm.MethodName)) ∈ lw_all := lw_g (lw_at lw_m6 128 rfl) rfl
theorem q1430 : (Jvm.Cond.methodLink "LandFolio$Parcel" (53 : Nat) ({ cls := "java/lang/Math", name := "max", desc := "(II)I" } : Jvm.MethodName)) ∈ lw_all := lw_g (lw_at lw_m6 129 rfl) rfl
theorem q1546 : (Jvm.Cond.instanceMethod ({ cls := "LandFolio$Parcel", name := "area", desc := "()I" } : Jvm.MethodName)) ∈ lw_all := lw_g (lw_at lw_m7 5 rfl) rfl
theorem q1547 : (Jvm.Cond.selects "LandFolio$Parcel" ({ cls := "LandFolio$Parcel", name := "area", desc := "()I" } : Jvm.MethodName) ({ cls := "LandFolio$Parcel", name := "area", desc := "()I" } : Jvm.MethodName)) ∈ lw_all := lw_g (lw_at lw_m7 6 rfl) rfl
theorem q1548 : (Jvm.Cond.code ({ cls := "LandFolio$Parcel", name := "area", desc := "()I" } : Jvm.MethodName) prog_10_method_4_code (1 : Nat) (Option.some Jvm.ClassFile.FieldType.int)) ∈ lw_all := lw_g (lw_at lw_m7 7 rfl) rfl
theorem q1726 : (Jvm.Cond.instanceMethod ({ cls := "LandFolio$Parcel", name := "parentAt", desc := "(I)I" } : Jvm.MethodName)) ∈ lw_all := lw_g (lw_at lw_m7 185 rfl) rfl
theorem q1727 : (Jvm.Cond.selects "LandFolio$Parcel" ({ cls := "LandFolio$Parcel", name := "parentAt", desc := "(I)I" } : Jvm.MethodName) ({ cls := "LandFolio$Parcel", name := "parentAt", desc := "(I)I" } : Jvm.MethodName)) ∈ lw_all := lw_g (lw_at lw_m7 186 rfl) rfl
theorem q1728 : (Jvm.Cond.code ({ cls := "LandFolio$Parcel", name := "parentAt", desc := "(I)I" } : Jvm.MethodName) prog_10_method_6_code (2 : Nat) (Option.some Jvm.ClassFile.FieldType.int)) ∈ lw_all := lw_g (lw_at lw_m7 187 rfl) rfl
theorem q2622 : (Jvm.Cond.castable "LandFolio$Parcel" "java/lang/Object") ∈ lw_tbl := lw_at lw_m11 121 rfl
theorem in_X2 : ∀ w ∈ wsX20, w ∈ lw_all := lw_in wsX20 [333, 335, 337, 339, 341, 343, 345, 347, 349] (by decide +kernel) (by decide +kernel)
/-! LandFolio$Deed -/
set_option maxRecDepth 100000
def RX3 : String := "LandFolio$Deed"
def TX3 : u_T := fun k => match k with
  | 0 => ("LandFolio$Deed", "parcel", "I", true)
  | 1 => ("LandFolio$Deed", "day", "I", true)
  | _ => ("LandFolio$Deed", "shares", "[I", true)
def tyX3 : Nat → FieldType := fun k => match k with
  | 0 => .int
  | 1 => .int
  | _ => .array .int
abbrev wsX30 : List Cond := u_ws RX3 TX3 3
theorem nmX3 : ∀ a, a < 3 → ∀ b, b < 3 → a ≠ b → (TX3 a).2.1 ≠ (TX3 b).2.1 := by decide +kernel
theorem tyX3_ok : ∀ k, k < 3 → parseFieldDescriptor (TX3 k).2.2.1 = some (tyX3 k) := by decide +kernel
abbrev cX3_init : ByteArray := prog_6_method_1_code
def yX3_init : MethodName := ⟨RX3, "<init>", "(II[I)V"⟩
def dkwX3_init_0 : List UInt8 := [42, 183, 0, 3, 42, 27, 181, 0, 9, 42, 28, 181, 0, 15, 42, 45, 181, 0, 18, 177]
abbrev dktX3_init_0 : List UInt8 := dkwX3_init_0 ++ []
theorem dksX3_init_0 : cX3_init.data.toList.drop 0 = dktX3_init_0 := by decide +kernel
theorem dX3_init_0 : decode cX3_init 0 = .ok (.aload_n 0, 1) := dk_42 (dk_at dksX3_init_0 0 rfl rfl)
theorem dX3_init_1 : decode cX3_init 1 = .ok (.invokespecial 3, 3) := dk_183 0 3 (dk_at dksX3_init_0 1 rfl rfl)
theorem dX3_init_4 : decode cX3_init 4 = .ok (.aload_n 0, 1) := dk_42 (dk_at dksX3_init_0 4 rfl rfl)
theorem dX3_init_5 : decode cX3_init 5 = .ok (.iload_n 1, 1) := dk_27 (dk_at dksX3_init_0 5 rfl rfl)
theorem dX3_init_6 : decode cX3_init 6 = .ok (.putfield 9, 3) := dk_181 0 9 (dk_at dksX3_init_0 6 rfl rfl)
theorem dX3_init_9 : decode cX3_init 9 = .ok (.aload_n 0, 1) := dk_42 (dk_at dksX3_init_0 9 rfl rfl)
theorem dX3_init_10 : decode cX3_init 10 = .ok (.iload_n 2, 1) := dk_28 (dk_at dksX3_init_0 10 rfl rfl)
theorem dX3_init_11 : decode cX3_init 11 = .ok (.putfield 15, 3) := dk_181 0 15 (dk_at dksX3_init_0 11 rfl rfl)
theorem dX3_init_14 : decode cX3_init 14 = .ok (.aload_n 0, 1) := dk_42 (dk_at dksX3_init_0 14 rfl rfl)
theorem dX3_init_15 : decode cX3_init 15 = .ok (.aload_n 3, 1) := dk_45 (dk_at dksX3_init_0 15 rfl rfl)
theorem dX3_init_16 : decode cX3_init 16 = .ok (.putfield 18, 3) := dk_181 0 18 (dk_at dksX3_init_0 16 rfl rfl)
theorem dX3_init_19 : decode cX3_init 19 = .ok (.return_, 1) := dk_177 (dk_at dksX3_init_0 19 rfl rfl)
abbrev cX3_isAlike : ByteArray := prog_6_method_2_code
def yX3_isAlike : MethodName := ⟨RX3, "isAlike", "(LLandFolio$Deed;)Z"⟩
def dkwX3_isAlike_1 : List UInt8 := [29, 46, 160, 0, 7, 4, 167, 0, 4, 3, 61, 132, 3, 1, 167, 255, 222, 28, 172]
abbrev dktX3_isAlike_1 : List UInt8 := dkwX3_isAlike_1 ++ []
def dkwX3_isAlike_0 : List UInt8 := [4, 61, 3, 62, 29, 16, 6, 162, 0, 34, 28, 153, 0, 22, 42, 180, 0, 18, 29, 46, 43, 180, 0, 18]
abbrev dktX3_isAlike_0 : List UInt8 := dkwX3_isAlike_0 ++ dktX3_isAlike_1
theorem dksX3_isAlike_0 : cX3_isAlike.data.toList.drop 0 = dktX3_isAlike_0 := by decide +kernel
theorem dksX3_isAlike_1 : cX3_isAlike.data.toList.drop 24 = dktX3_isAlike_1 := dk_seg dksX3_isAlike_0 24 rfl rfl
theorem dX3_isAlike_0 : decode cX3_isAlike 0 = .ok (.iconst 1, 1) := dk_4 (dk_at dksX3_isAlike_0 0 rfl rfl)
theorem dX3_isAlike_1 : decode cX3_isAlike 1 = .ok (.istore_n 2, 1) := dk_61 (dk_at dksX3_isAlike_0 1 rfl rfl)
theorem dX3_isAlike_2 : decode cX3_isAlike 2 = .ok (.iconst 0, 1) := dk_3 (dk_at dksX3_isAlike_0 2 rfl rfl)
theorem dX3_isAlike_3 : decode cX3_isAlike 3 = .ok (.istore_n 3, 1) := dk_62 (dk_at dksX3_isAlike_0 3 rfl rfl)
theorem dX3_isAlike_4 : decode cX3_isAlike 4 = .ok (.iload_n 3, 1) := dk_29 (dk_at dksX3_isAlike_0 4 rfl rfl)
theorem dX3_isAlike_5 : decode cX3_isAlike 5 = .ok (.bipush 6, 2) := dk_16 6 (dk_at dksX3_isAlike_0 5 rfl rfl)
theorem dX3_isAlike_7 : decode cX3_isAlike 7 = .ok (.if_icmp .ge 34, 3) := dk_162 0 34 (dk_at dksX3_isAlike_0 7 rfl rfl)
theorem dX3_isAlike_10 : decode cX3_isAlike 10 = .ok (.iload_n 2, 1) := dk_28 (dk_at dksX3_isAlike_0 10 rfl rfl)
theorem dX3_isAlike_11 : decode cX3_isAlike 11 = .ok (.ifCond .eq 22, 3) := dk_153 0 22 (dk_at dksX3_isAlike_0 11 rfl rfl)
theorem dX3_isAlike_14 : decode cX3_isAlike 14 = .ok (.aload_n 0, 1) := dk_42 (dk_at dksX3_isAlike_0 14 rfl rfl)
theorem dX3_isAlike_15 : decode cX3_isAlike 15 = .ok (.getfield 18, 3) := dk_180 0 18 (dk_at dksX3_isAlike_0 15 rfl rfl)
theorem dX3_isAlike_18 : decode cX3_isAlike 18 = .ok (.iload_n 3, 1) := dk_29 (dk_at dksX3_isAlike_0 18 rfl rfl)
theorem dX3_isAlike_19 : decode cX3_isAlike 19 = .ok (.iaload, 1) := dk_46 (dk_at dksX3_isAlike_0 19 rfl rfl)
theorem dX3_isAlike_20 : decode cX3_isAlike 20 = .ok (.aload_n 1, 1) := dk_43 (dk_at dksX3_isAlike_0 20 rfl rfl)
theorem dX3_isAlike_21 : decode cX3_isAlike 21 = .ok (.getfield 18, 3) := dk_180 0 18 (dk_at dksX3_isAlike_0 21 rfl rfl)
theorem dX3_isAlike_24 : decode cX3_isAlike 24 = .ok (.iload_n 3, 1) := dk_29 (dk_at dksX3_isAlike_1 0 rfl rfl)
theorem dX3_isAlike_25 : decode cX3_isAlike 25 = .ok (.iaload, 1) := dk_46 (dk_at dksX3_isAlike_1 1 rfl rfl)
theorem dX3_isAlike_26 : decode cX3_isAlike 26 = .ok (.if_icmp .ne 7, 3) := dk_160 0 7 (dk_at dksX3_isAlike_1 2 rfl rfl)
theorem dX3_isAlike_29 : decode cX3_isAlike 29 = .ok (.iconst 1, 1) := dk_4 (dk_at dksX3_isAlike_1 5 rfl rfl)
theorem dX3_isAlike_30 : decode cX3_isAlike 30 = .ok (.goto 4, 3) := dk_167 0 4 (dk_at dksX3_isAlike_1 6 rfl rfl)
theorem dX3_isAlike_33 : decode cX3_isAlike 33 = .ok (.iconst 0, 1) := dk_3 (dk_at dksX3_isAlike_1 9 rfl rfl)
theorem dX3_isAlike_34 : decode cX3_isAlike 34 = .ok (.istore_n 2, 1) := dk_61 (dk_at dksX3_isAlike_1 10 rfl rfl)
theorem dX3_isAlike_35 : decode cX3_isAlike 35 = .ok (.iinc 3 1, 3) := dk_132 3 1 (dk_at dksX3_isAlike_1 11 rfl rfl)
theorem dX3_isAlike_38 : decode cX3_isAlike 38 = .ok (.goto (-34), 3) := dk_167 255 222 (dk_at dksX3_isAlike_1 14 rfl rfl)
theorem dX3_isAlike_41 : decode cX3_isAlike 41 = .ok (.iload_n 2, 1) := dk_28 (dk_at dksX3_isAlike_1 17 rfl rfl)
theorem dX3_isAlike_42 : decode cX3_isAlike 42 = .ok (.ireturn, 1) := dk_172 (dk_at dksX3_isAlike_1 18 rfl rfl)
theorem q112 : (Jvm.Cond.initialized "LandFolio$Deed") ∈ lw_all := lw_g (lw_at lw_m1 11 rfl) rfl
theorem q261 : (Jvm.Cond.selects "LandFolio$Deed" ({ cls := "java/lang/Object", name := "getClass", desc := "()Ljava/lang/Class;" } : Jvm.MethodName) ({ cls := "java/lang/Object", name := "getClass", desc := "()Ljava/lang/Class;" } : Jvm.MethodName)) ∈ lw_all := lw_g (lw_at lw_m1 160 rfl) rfl
theorem q360 : (Jvm.Cond.instantiable "LandFolio$Deed" (3 : Nat)) ∈ lw_all := lw_g (lw_at lw_m2 19 rfl) rfl
theorem q366 : (Jvm.Cond.instanceMethod ({ cls := "LandFolio$Deed", name := "<init>", desc := "(II[I)V" } : Jvm.MethodName)) ∈ lw_all := lw_g (lw_at lw_m2 25 rfl) rfl
theorem q367 : (Jvm.Cond.code ({ cls := "LandFolio$Deed", name := "<init>", desc := "(II[I)V" } : Jvm.MethodName) prog_6_method_1_code (4 : Nat) (Option.none : Option Jvm.ClassFile.FieldType)) ∈ lw_all := lw_g (lw_at lw_m2 26 rfl) rfl
theorem q368 : (Jvm.Cond.methodLink "LandFolio$Deed" (3 : Nat) ({ cls := "java/lang/Object", name := "<init>", desc := "()V" } : Jvm.MethodName)) ∈ lw_all := lw_g (lw_at lw_m2 27 rfl) rfl
theorem q369 : (Jvm.Cond.fieldLink "LandFolio$Deed" (9 : Nat) "LandFolio$Deed" "parcel" "I") ∈ lw_all := lw_g (lw_at lw_m2 28 rfl) rfl
theorem q371 : (Jvm.Cond.fieldLink "LandFolio$Deed" (15 : Nat) "LandFolio$Deed" "day" "I") ∈ lw_all := lw_g (lw_at lw_m2 30 rfl) rfl
theorem q373 : (Jvm.Cond.fieldLink "LandFolio$Deed" (18 : Nat) "LandFolio$Deed" "shares" "[I") ∈ lw_all := lw_g (lw_at lw_m2 32 rfl) rfl
theorem q377 : (Jvm.Cond.laysFinal "LandFolio$Deed" "LandFolio$Deed" "parcel" "I") ∈ lw_all := lw_g (lw_at lw_m2 36 rfl) rfl
theorem q378 : (Jvm.Cond.soleField "LandFolio$Deed" "parcel") ∈ lw_all := lw_g (lw_at lw_m2 37 rfl) rfl
theorem q379 : (Jvm.Cond.laysFinal "LandFolio$Deed" "LandFolio$Deed" "day" "I") ∈ lw_all := lw_g (lw_at lw_m2 38 rfl) rfl
theorem q380 : (Jvm.Cond.soleField "LandFolio$Deed" "day") ∈ lw_all := lw_g (lw_at lw_m2 39 rfl) rfl
theorem q381 : (Jvm.Cond.laysFinal "LandFolio$Deed" "LandFolio$Deed" "shares" "[I") ∈ lw_all := lw_g (lw_at lw_m2 40 rfl) rfl
theorem q382 : (Jvm.Cond.soleField "LandFolio$Deed" "shares") ∈ lw_all := lw_g (lw_at lw_m2 41 rfl) rfl
theorem q383 : (Jvm.Cond.superclass "LandFolio$Deed" "java/lang/Object") ∈ lw_all := lw_g (lw_at lw_m2 42 rfl) rfl
theorem q1142 : (Jvm.Cond.selects "LandFolio$Deed" ({ cls := "java/lang/Object", name := "equals", desc := "(Ljava/lang/Object;)Z" } : Jvm.MethodName) ({ cls := "java/lang/Object", name := "equals", desc := "(Ljava/lang/Object;)Z" } : Jvm.MethodName)) ∈ lw_all := lw_g (lw_at lw_m5 81 rfl) rfl
theorem q1436 : (Jvm.Cond.instanceMethod ({ cls := "LandFolio$Deed", name := "isAlike", desc := "(LLandFolio$Deed;)Z" } : Jvm.MethodName)) ∈ lw_all := lw_g (lw_at lw_m6 135 rfl) rfl
theorem q1437 : (Jvm.Cond.selects "LandFolio$Deed" ({ cls := "LandFolio$Deed", name := "isAlike", desc := "(LLandFolio$Deed;)Z" } : Jvm.MethodName) ({ cls := "LandFolio$Deed", name := "isAlike", desc := "(LLandFolio$Deed;)Z" } : Jvm.MethodName)) ∈ lw_all := lw_g (lw_at lw_m6 136 rfl) rfl
theorem q1438 : (Jvm.Cond.code ({ cls := "LandFolio$Deed", name := "isAlike", desc := "(LLandFolio$Deed;)Z" } : Jvm.MethodName) prog_6_method_2_code (4 : Nat) (Option.some Jvm.ClassFile.FieldType.boolean)) ∈ lw_all := lw_g (lw_at lw_m6 137 rfl) rfl
theorem q2623 : (Jvm.Cond.castable "LandFolio$Deed" "java/lang/Object") ∈ lw_tbl := lw_at lw_m11 122 rfl
theorem in_X3 : ∀ w ∈ wsX30, w ∈ lw_all := lw_in wsX30 [377, 379, 381] (by decide +kernel) (by decide +kernel)
/-! LandFolio$Reader -/
set_option maxRecDepth 100000
def RX5 : String := "LandFolio$Reader"
def TX5 : u_T := fun k => match k with
  | 0 => ("LandFolio$Reader", "read", "LLandFolio$Folio;", true)
  | 1 => ("LandFolio$Reader", "at", "I", false)
  | 2 => ("LandFolio$Reader", "start", "I", false)
  | 3 => ("LandFolio$Reader", "kind", "I", false)
  | 4 => ("LandFolio$Reader", "word", "Ljava/lang/String;", false)
  | 5 => ("LandFolio$Reader", "number", "I", false)
  | _ => ("LandFolio$Reader", "this$0", "LLandFolio;", true)
def tyX5 : Nat → FieldType := fun k => match k with
  | 0 => .object "LandFolio$Folio"
  | 1 => .int
  | 2 => .int
  | 3 => .int
  | 4 => .object "java/lang/String"
  | 5 => .int
  | _ => .object "LandFolio"
abbrev wsX50 : List Cond := u_ws RX5 TX5 7
theorem nmX5 : ∀ a, a < 7 → ∀ b, b < 7 → a ≠ b → (TX5 a).2.1 ≠ (TX5 b).2.1 := by decide +kernel
theorem tyX5_ok : ∀ k, k < 7 → parseFieldDescriptor (TX5 k).2.2.1 = some (tyX5 k) := by decide +kernel
abbrev cX5_init : ByteArray := prog_12_method_1_code
def yX5_init : MethodName := ⟨RX5, "<init>", "(LLandFolio;)V"⟩
def dkwX5_init_1 : List UInt8 := [181, 0, 24, 42, 182, 0, 28, 177]
abbrev dktX5_init_1 : List UInt8 := dkwX5_init_1 ++ []
def dkwX5_init_0 : List UInt8 := [42, 43, 181, 0, 3, 42, 183, 0, 9, 42, 187, 0, 15, 89, 183, 0, 17, 181, 0, 18, 42, 18, 22]
abbrev dktX5_init_0 : List UInt8 := dkwX5_init_0 ++ dktX5_init_1
theorem dksX5_init_0 : cX5_init.data.toList.drop 0 = dktX5_init_0 := by decide +kernel
theorem dksX5_init_1 : cX5_init.data.toList.drop 23 = dktX5_init_1 := dk_seg dksX5_init_0 23 rfl rfl
theorem dX5_init_0 : decode cX5_init 0 = .ok (.aload_n 0, 1) := dk_42 (dk_at dksX5_init_0 0 rfl rfl)
theorem dX5_init_1 : decode cX5_init 1 = .ok (.aload_n 1, 1) := dk_43 (dk_at dksX5_init_0 1 rfl rfl)
theorem dX5_init_2 : decode cX5_init 2 = .ok (.putfield 3, 3) := dk_181 0 3 (dk_at dksX5_init_0 2 rfl rfl)
theorem dX5_init_5 : decode cX5_init 5 = .ok (.aload_n 0, 1) := dk_42 (dk_at dksX5_init_0 5 rfl rfl)
theorem dX5_init_6 : decode cX5_init 6 = .ok (.invokespecial 9, 3) := dk_183 0 9 (dk_at dksX5_init_0 6 rfl rfl)
theorem dX5_init_9 : decode cX5_init 9 = .ok (.aload_n 0, 1) := dk_42 (dk_at dksX5_init_0 9 rfl rfl)
theorem dX5_init_10 : decode cX5_init 10 = .ok (.new 15, 3) := dk_187 0 15 (dk_at dksX5_init_0 10 rfl rfl)
theorem dX5_init_13 : decode cX5_init 13 = .ok (.dup, 1) := dk_89 (dk_at dksX5_init_0 13 rfl rfl)
theorem dX5_init_14 : decode cX5_init 14 = .ok (.invokespecial 17, 3) := dk_183 0 17 (dk_at dksX5_init_0 14 rfl rfl)
theorem dX5_init_17 : decode cX5_init 17 = .ok (.putfield 18, 3) := dk_181 0 18 (dk_at dksX5_init_0 17 rfl rfl)
theorem dX5_init_20 : decode cX5_init 20 = .ok (.aload_n 0, 1) := dk_42 (dk_at dksX5_init_0 20 rfl rfl)
theorem dX5_init_21 : decode cX5_init 21 = .ok (.ldc 22, 2) := dk_18 22 (dk_at dksX5_init_0 21 rfl rfl)
theorem dX5_init_23 : decode cX5_init 23 = .ok (.putfield 24, 3) := dk_181 0 24 (dk_at dksX5_init_1 0 rfl rfl)
theorem dX5_init_26 : decode cX5_init 26 = .ok (.aload_n 0, 1) := dk_42 (dk_at dksX5_init_1 3 rfl rfl)
theorem dX5_init_27 : decode cX5_init 27 = .ok (.invokevirtual 28, 3) := dk_182 0 28 (dk_at dksX5_init_1 4 rfl rfl)
theorem dX5_init_30 : decode cX5_init 30 = .ok (.return_, 1) := dk_177 (dk_at dksX5_init_1 7 rfl rfl)
abbrev cX5_next : ByteArray := prog_12_method_3_code
def yX5_next : MethodName := ⟨RX5, "next", "()V"⟩
def dkwX5_next_5 : List UInt8 := [160, 0, 7, 7, 167, 0, 4, 8, 181, 0, 53, 42, 89, 180, 0, 31, 4, 96, 181, 0, 31, 177]
abbrev dktX5_next_5 : List UInt8 := dkwX5_next_5 ++ []
def dkwX5_next_4 : List UInt8 := [42, 182, 0, 59, 167, 0, 39, 42, 42, 180, 0, 3, 180, 0, 38, 42, 180, 0, 31, 51, 16, 59]
abbrev dktX5_next_4 : List UInt8 := dkwX5_next_4 ++ dktX5_next_5
def dkwX5_next_3 : List UInt8 := [182, 0, 46, 153, 0, 10, 42, 182, 0, 56, 167, 0, 57, 42, 16, 48, 16, 57, 182, 0, 46, 153, 0, 10]
abbrev dktX5_next_3 : List UInt8 := dkwX5_next_3 ++ dktX5_next_4
def dkwX5_next_2 : List UInt8 := [180, 0, 3, 180, 0, 35, 160, 0, 11, 42, 3, 181, 0, 53, 167, 0, 75, 42, 16, 97, 16, 122]
abbrev dktX5_next_2 : List UInt8 := dkwX5_next_2 ++ dktX5_next_3
def dkwX5_next_1 : List UInt8 := [180, 0, 31, 4, 96, 181, 0, 31, 167, 255, 224, 42, 42, 180, 0, 31, 181, 0, 50, 42, 180, 0, 31, 42]
abbrev dktX5_next_1 : List UInt8 := dkwX5_next_1 ++ dktX5_next_2
def dkwX5_next_0 : List UInt8 := [42, 16, 32, 16, 32, 182, 0, 46, 154, 0, 14, 42, 16, 10, 16, 10, 182, 0, 46, 153, 0, 16, 42, 89]
abbrev dktX5_next_0 : List UInt8 := dkwX5_next_0 ++ dktX5_next_1
theorem dksX5_next_0 : cX5_next.data.toList.drop 0 = dktX5_next_0 := by decide +kernel
theorem dksX5_next_1 : cX5_next.data.toList.drop 24 = dktX5_next_1 := dk_seg dksX5_next_0 24 rfl rfl
theorem dksX5_next_2 : cX5_next.data.toList.drop 48 = dktX5_next_2 := dk_seg dksX5_next_1 24 rfl rfl
theorem dksX5_next_3 : cX5_next.data.toList.drop 70 = dktX5_next_3 := dk_seg dksX5_next_2 22 rfl rfl
theorem dksX5_next_4 : cX5_next.data.toList.drop 94 = dktX5_next_4 := dk_seg dksX5_next_3 24 rfl rfl
theorem dksX5_next_5 : cX5_next.data.toList.drop 116 = dktX5_next_5 := dk_seg dksX5_next_4 22 rfl rfl
theorem dX5_next_0 : decode cX5_next 0 = .ok (.aload_n 0, 1) := dk_42 (dk_at dksX5_next_0 0 rfl rfl)
theorem dX5_next_1 : decode cX5_next 1 = .ok (.bipush 32, 2) := dk_16 32 (dk_at dksX5_next_0 1 rfl rfl)
theorem dX5_next_3 : decode cX5_next 3 = .ok (.bipush 32, 2) := dk_16 32 (dk_at dksX5_next_0 3 rfl rfl)
theorem dX5_next_5 : decode cX5_next 5 = .ok (.invokevirtual 46, 3) := dk_182 0 46 (dk_at dksX5_next_0 5 rfl rfl)
theorem dX5_next_8 : decode cX5_next 8 = .ok (.ifCond .ne 14, 3) := dk_154 0 14 (dk_at dksX5_next_0 8 rfl rfl)
theorem dX5_next_11 : decode cX5_next 11 = .ok (.aload_n 0, 1) := dk_42 (dk_at dksX5_next_0 11 rfl rfl)
theorem dX5_next_12 : decode cX5_next 12 = .ok (.bipush 10, 2) := dk_16 10 (dk_at dksX5_next_0 12 rfl rfl)
theorem dX5_next_14 : decode cX5_next 14 = .ok (.bipush 10, 2) := dk_16 10 (dk_at dksX5_next_0 14 rfl rfl)
theorem dX5_next_16 : decode cX5_next 16 = .ok (.invokevirtual 46, 3) := dk_182 0 46 (dk_at dksX5_next_0 16 rfl rfl)
theorem dX5_next_19 : decode cX5_next 19 = .ok (.ifCond .eq 16, 3) := dk_153 0 16 (dk_at dksX5_next_0 19 rfl rfl)
theorem dX5_next_22 : decode cX5_next 22 = .ok (.aload_n 0, 1) := dk_42 (dk_at dksX5_next_0 22 rfl rfl)
theorem dX5_next_23 : decode cX5_next 23 = .ok (.dup, 1) := dk_89 (dk_at dksX5_next_0 23 rfl rfl)
theorem dX5_next_24 : decode cX5_next 24 = .ok (.getfield 31, 3) := dk_180 0 31 (dk_at dksX5_next_1 0 rfl rfl)
theorem dX5_next_27 : decode cX5_next 27 = .ok (.iconst 1, 1) := dk_4 (dk_at dksX5_next_1 3 rfl rfl)
theorem dX5_next_28 : decode cX5_next 28 = .ok (.iadd, 1) := dk_96 (dk_at dksX5_next_1 4 rfl rfl)
theorem dX5_next_29 : decode cX5_next 29 = .ok (.putfield 31, 3) := dk_181 0 31 (dk_at dksX5_next_1 5 rfl rfl)
theorem dX5_next_32 : decode cX5_next 32 = .ok (.goto (-32), 3) := dk_167 255 224 (dk_at dksX5_next_1 8 rfl rfl)
theorem dX5_next_35 : decode cX5_next 35 = .ok (.aload_n 0, 1) := dk_42 (dk_at dksX5_next_1 11 rfl rfl)
theorem dX5_next_36 : decode cX5_next 36 = .ok (.aload_n 0, 1) := dk_42 (dk_at dksX5_next_1 12 rfl rfl)
theorem dX5_next_37 : decode cX5_next 37 = .ok (.getfield 31, 3) := dk_180 0 31 (dk_at dksX5_next_1 13 rfl rfl)
theorem dX5_next_40 : decode cX5_next 40 = .ok (.putfield 50, 3) := dk_181 0 50 (dk_at dksX5_next_1 16 rfl rfl)
theorem dX5_next_43 : decode cX5_next 43 = .ok (.aload_n 0, 1) := dk_42 (dk_at dksX5_next_1 19 rfl rfl)
theorem dX5_next_44 : decode cX5_next 44 = .ok (.getfield 31, 3) := dk_180 0 31 (dk_at dksX5_next_1 20 rfl rfl)
theorem dX5_next_47 : decode cX5_next 47 = .ok (.aload_n 0, 1) := dk_42 (dk_at dksX5_next_1 23 rfl rfl)
theorem dX5_next_48 : decode cX5_next 48 = .ok (.getfield 3, 3) := dk_180 0 3 (dk_at dksX5_next_2 0 rfl rfl)
theorem dX5_next_51 : decode cX5_next 51 = .ok (.getfield 35, 3) := dk_180 0 35 (dk_at dksX5_next_2 3 rfl rfl)
theorem dX5_next_54 : decode cX5_next 54 = .ok (.if_icmp .ne 11, 3) := dk_160 0 11 (dk_at dksX5_next_2 6 rfl rfl)
theorem dX5_next_57 : decode cX5_next 57 = .ok (.aload_n 0, 1) := dk_42 (dk_at dksX5_next_2 9 rfl rfl)
theorem dX5_next_58 : decode cX5_next 58 = .ok (.iconst 0, 1) := dk_3 (dk_at dksX5_next_2 10 rfl rfl)
theorem dX5_next_59 : decode cX5_next 59 = .ok (.putfield 53, 3) := dk_181 0 53 (dk_at dksX5_next_2 11 rfl rfl)
theorem dX5_next_62 : decode cX5_next 62 = .ok (.goto 75, 3) := dk_167 0 75 (dk_at dksX5_next_2 14 rfl rfl)
theorem dX5_next_65 : decode cX5_next 65 = .ok (.aload_n 0, 1) := dk_42 (dk_at dksX5_next_2 17 rfl rfl)
theorem dX5_next_66 : decode cX5_next 66 = .ok (.bipush 97, 2) := dk_16 97 (dk_at dksX5_next_2 18 rfl rfl)
theorem dX5_next_68 : decode cX5_next 68 = .ok (.bipush 122, 2) := dk_16 122 (dk_at dksX5_next_2 20 rfl rfl)
theorem dX5_next_70 : decode cX5_next 70 = .ok (.invokevirtual 46, 3) := dk_182 0 46 (dk_at dksX5_next_3 0 rfl rfl)
theorem dX5_next_73 : decode cX5_next 73 = .ok (.ifCond .eq 10, 3) := dk_153 0 10 (dk_at dksX5_next_3 3 rfl rfl)
theorem dX5_next_76 : decode cX5_next 76 = .ok (.aload_n 0, 1) := dk_42 (dk_at dksX5_next_3 6 rfl rfl)
theorem dX5_next_77 : decode cX5_next 77 = .ok (.invokevirtual 56, 3) := dk_182 0 56 (dk_at dksX5_next_3 7 rfl rfl)
theorem dX5_next_80 : decode cX5_next 80 = .ok (.goto 57, 3) := dk_167 0 57 (dk_at dksX5_next_3 10 rfl rfl)
theorem dX5_next_83 : decode cX5_next 83 = .ok (.aload_n 0, 1) := dk_42 (dk_at dksX5_next_3 13 rfl rfl)
theorem dX5_next_84 : decode cX5_next 84 = .ok (.bipush 48, 2) := dk_16 48 (dk_at dksX5_next_3 14 rfl rfl)
theorem dX5_next_86 : decode cX5_next 86 = .ok (.bipush 57, 2) := dk_16 57 (dk_at dksX5_next_3 16 rfl rfl)
theorem dX5_next_88 : decode cX5_next 88 = .ok (.invokevirtual 46, 3) := dk_182 0 46 (dk_at dksX5_next_3 18 rfl rfl)
theorem dX5_next_91 : decode cX5_next 91 = .ok (.ifCond .eq 10, 3) := dk_153 0 10 (dk_at dksX5_next_3 21 rfl rfl)
theorem dX5_next_94 : decode cX5_next 94 = .ok (.aload_n 0, 1) := dk_42 (dk_at dksX5_next_4 0 rfl rfl)
theorem dX5_next_95 : decode cX5_next 95 = .ok (.invokevirtual 59, 3) := dk_182 0 59 (dk_at dksX5_next_4 1 rfl rfl)
theorem dX5_next_98 : decode cX5_next 98 = .ok (.goto 39, 3) := dk_167 0 39 (dk_at dksX5_next_4 4 rfl rfl)
theorem dX5_next_101 : decode cX5_next 101 = .ok (.aload_n 0, 1) := dk_42 (dk_at dksX5_next_4 7 rfl rfl)
theorem dX5_next_102 : decode cX5_next 102 = .ok (.aload_n 0, 1) := dk_42 (dk_at dksX5_next_4 8 rfl rfl)
theorem dX5_next_103 : decode cX5_next 103 = .ok (.getfield 3, 3) := dk_180 0 3 (dk_at dksX5_next_4 9 rfl rfl)
theorem dX5_next_106 : decode cX5_next 106 = .ok (.getfield 38, 3) := dk_180 0 38 (dk_at dksX5_next_4 12 rfl rfl)
theorem dX5_next_109 : decode cX5_next 109 = .ok (.aload_n 0, 1) := dk_42 (dk_at dksX5_next_4 15 rfl rfl)
theorem dX5_next_110 : decode cX5_next 110 = .ok (.getfield 31, 3) := dk_180 0 31 (dk_at dksX5_next_4 16 rfl rfl)
theorem dX5_next_113 : decode cX5_next 113 = .ok (.baload, 1) := dk_51 (dk_at dksX5_next_4 19 rfl rfl)
theorem dX5_next_114 : decode cX5_next 114 = .ok (.bipush 59, 2) := dk_16 59 (dk_at dksX5_next_4 20 rfl rfl)
theorem dX5_next_116 : decode cX5_next 116 = .ok (.if_icmp .ne 7, 3) := dk_160 0 7 (dk_at dksX5_next_5 0 rfl rfl)
theorem dX5_next_119 : decode cX5_next 119 = .ok (.iconst 4, 1) := dk_7 (dk_at dksX5_next_5 3 rfl rfl)
theorem dX5_next_120 : decode cX5_next 120 = .ok (.goto 4, 3) := dk_167 0 4 (dk_at dksX5_next_5 4 rfl rfl)
theorem dX5_next_123 : decode cX5_next 123 = .ok (.iconst 5, 1) := dk_8 (dk_at dksX5_next_5 7 rfl rfl)
theorem dX5_next_124 : decode cX5_next 124 = .ok (.putfield 53, 3) := dk_181 0 53 (dk_at dksX5_next_5 8 rfl rfl)
theorem dX5_next_127 : decode cX5_next 127 = .ok (.aload_n 0, 1) := dk_42 (dk_at dksX5_next_5 11 rfl rfl)
theorem dX5_next_128 : decode cX5_next 128 = .ok (.dup, 1) := dk_89 (dk_at dksX5_next_5 12 rfl rfl)
theorem dX5_next_129 : decode cX5_next 129 = .ok (.getfield 31, 3) := dk_180 0 31 (dk_at dksX5_next_5 13 rfl rfl)
theorem dX5_next_132 : decode cX5_next 132 = .ok (.iconst 1, 1) := dk_4 (dk_at dksX5_next_5 16 rfl rfl)
theorem dX5_next_133 : decode cX5_next 133 = .ok (.iadd, 1) := dk_96 (dk_at dksX5_next_5 17 rfl rfl)
theorem dX5_next_134 : decode cX5_next 134 = .ok (.putfield 31, 3) := dk_181 0 31 (dk_at dksX5_next_5 18 rfl rfl)
theorem dX5_next_137 : decode cX5_next 137 = .ok (.return_, 1) := dk_177 (dk_at dksX5_next_5 21 rfl rfl)
abbrev cX5_isAt : ByteArray := prog_12_method_2_code
def yX5_isAt : MethodName := ⟨RX5, "isAt", "(II)Z"⟩
def dkwX5_isAt_1 : List UInt8 := [180, 0, 31, 51, 27, 28, 184, 0, 42, 153, 0, 7, 4, 167, 0, 4, 3, 172]
abbrev dktX5_isAt_1 : List UInt8 := dkwX5_isAt_1 ++ []
def dkwX5_isAt_0 : List UInt8 := [42, 180, 0, 31, 42, 180, 0, 3, 180, 0, 35, 162, 0, 27, 42, 180, 0, 3, 180, 0, 38, 42]
abbrev dktX5_isAt_0 : List UInt8 := dkwX5_isAt_0 ++ dktX5_isAt_1
theorem dksX5_isAt_0 : cX5_isAt.data.toList.drop 0 = dktX5_isAt_0 := by decide +kernel
theorem dksX5_isAt_1 : cX5_isAt.data.toList.drop 22 = dktX5_isAt_1 := dk_seg dksX5_isAt_0 22 rfl rfl
theorem dX5_isAt_0 : decode cX5_isAt 0 = .ok (.aload_n 0, 1) := dk_42 (dk_at dksX5_isAt_0 0 rfl rfl)
theorem dX5_isAt_1 : decode cX5_isAt 1 = .ok (.getfield 31, 3) := dk_180 0 31 (dk_at dksX5_isAt_0 1 rfl rfl)
theorem dX5_isAt_4 : decode cX5_isAt 4 = .ok (.aload_n 0, 1) := dk_42 (dk_at dksX5_isAt_0 4 rfl rfl)
theorem dX5_isAt_5 : decode cX5_isAt 5 = .ok (.getfield 3, 3) := dk_180 0 3 (dk_at dksX5_isAt_0 5 rfl rfl)
theorem dX5_isAt_8 : decode cX5_isAt 8 = .ok (.getfield 35, 3) := dk_180 0 35 (dk_at dksX5_isAt_0 8 rfl rfl)
theorem dX5_isAt_11 : decode cX5_isAt 11 = .ok (.if_icmp .ge 27, 3) := dk_162 0 27 (dk_at dksX5_isAt_0 11 rfl rfl)
theorem dX5_isAt_14 : decode cX5_isAt 14 = .ok (.aload_n 0, 1) := dk_42 (dk_at dksX5_isAt_0 14 rfl rfl)
theorem dX5_isAt_15 : decode cX5_isAt 15 = .ok (.getfield 3, 3) := dk_180 0 3 (dk_at dksX5_isAt_0 15 rfl rfl)
theorem dX5_isAt_18 : decode cX5_isAt 18 = .ok (.getfield 38, 3) := dk_180 0 38 (dk_at dksX5_isAt_0 18 rfl rfl)
theorem dX5_isAt_21 : decode cX5_isAt 21 = .ok (.aload_n 0, 1) := dk_42 (dk_at dksX5_isAt_0 21 rfl rfl)
theorem dX5_isAt_22 : decode cX5_isAt 22 = .ok (.getfield 31, 3) := dk_180 0 31 (dk_at dksX5_isAt_1 0 rfl rfl)
theorem dX5_isAt_25 : decode cX5_isAt 25 = .ok (.baload, 1) := dk_51 (dk_at dksX5_isAt_1 3 rfl rfl)
theorem dX5_isAt_26 : decode cX5_isAt 26 = .ok (.iload_n 1, 1) := dk_27 (dk_at dksX5_isAt_1 4 rfl rfl)
theorem dX5_isAt_27 : decode cX5_isAt 27 = .ok (.iload_n 2, 1) := dk_28 (dk_at dksX5_isAt_1 5 rfl rfl)
theorem dX5_isAt_28 : decode cX5_isAt 28 = .ok (.invokestatic 42, 3) := dk_184 0 42 (dk_at dksX5_isAt_1 6 rfl rfl)
theorem dX5_isAt_31 : decode cX5_isAt 31 = .ok (.ifCond .eq 7, 3) := dk_153 0 7 (dk_at dksX5_isAt_1 9 rfl rfl)
theorem dX5_isAt_34 : decode cX5_isAt 34 = .ok (.iconst 1, 1) := dk_4 (dk_at dksX5_isAt_1 12 rfl rfl)
theorem dX5_isAt_35 : decode cX5_isAt 35 = .ok (.goto 4, 3) := dk_167 0 4 (dk_at dksX5_isAt_1 13 rfl rfl)
theorem dX5_isAt_38 : decode cX5_isAt 38 = .ok (.iconst 0, 1) := dk_3 (dk_at dksX5_isAt_1 16 rfl rfl)
theorem dX5_isAt_39 : decode cX5_isAt 39 = .ok (.ireturn, 1) := dk_172 (dk_at dksX5_isAt_1 17 rfl rfl)
abbrev cX5_letters : ByteArray := prog_12_method_4_code
def yX5_letters : MethodName := ⟨RX5, "letters", "()V"⟩
def dkwX5_letters_3 : List UInt8 := [180, 0, 24, 184, 0, 77, 181, 0, 53, 177]
abbrev dktX5_letters_3 : List UInt8 := dkwX5_letters_3 ++ []
def dkwX5_letters_2 : List UInt8 := [89, 180, 0, 31, 4, 96, 181, 0, 31, 167, 255, 208, 42, 43, 182, 0, 73, 181, 0, 24, 42, 42]
abbrev dktX5_letters_2 : List UInt8 := dkwX5_letters_2 ++ dktX5_letters_3
def dkwX5_letters_1 : List UInt8 := [16, 6, 162, 0, 21, 43, 42, 180, 0, 3, 180, 0, 38, 42, 180, 0, 31, 51, 146, 182, 0, 69, 87, 42]
abbrev dktX5_letters_1 : List UInt8 := dkwX5_letters_1 ++ dktX5_letters_2
def dkwX5_letters_0 : List UInt8 := [187, 0, 62, 89, 183, 0, 64, 76, 42, 16, 97, 16, 122, 182, 0, 46, 153, 0, 43, 43, 182, 0, 65]
abbrev dktX5_letters_0 : List UInt8 := dkwX5_letters_0 ++ dktX5_letters_1
theorem dksX5_letters_0 : cX5_letters.data.toList.drop 0 = dktX5_letters_0 := by decide +kernel
theorem dksX5_letters_1 : cX5_letters.data.toList.drop 23 = dktX5_letters_1 := dk_seg dksX5_letters_0 23 rfl rfl
theorem dksX5_letters_2 : cX5_letters.data.toList.drop 47 = dktX5_letters_2 := dk_seg dksX5_letters_1 24 rfl rfl
theorem dksX5_letters_3 : cX5_letters.data.toList.drop 69 = dktX5_letters_3 := dk_seg dksX5_letters_2 22 rfl rfl
theorem dX5_letters_0 : decode cX5_letters 0 = .ok (.new 62, 3) := dk_187 0 62 (dk_at dksX5_letters_0 0 rfl rfl)
theorem dX5_letters_3 : decode cX5_letters 3 = .ok (.dup, 1) := dk_89 (dk_at dksX5_letters_0 3 rfl rfl)
theorem dX5_letters_4 : decode cX5_letters 4 = .ok (.invokespecial 64, 3) := dk_183 0 64 (dk_at dksX5_letters_0 4 rfl rfl)
theorem dX5_letters_7 : decode cX5_letters 7 = .ok (.astore_n 1, 1) := dk_76 (dk_at dksX5_letters_0 7 rfl rfl)
theorem dX5_letters_8 : decode cX5_letters 8 = .ok (.aload_n 0, 1) := dk_42 (dk_at dksX5_letters_0 8 rfl rfl)
theorem dX5_letters_9 : decode cX5_letters 9 = .ok (.bipush 97, 2) := dk_16 97 (dk_at dksX5_letters_0 9 rfl rfl)
theorem dX5_letters_11 : decode cX5_letters 11 = .ok (.bipush 122, 2) := dk_16 122 (dk_at dksX5_letters_0 11 rfl rfl)
theorem dX5_letters_13 : decode cX5_letters 13 = .ok (.invokevirtual 46, 3) := dk_182 0 46 (dk_at dksX5_letters_0 13 rfl rfl)
theorem dX5_letters_16 : decode cX5_letters 16 = .ok (.ifCond .eq 43, 3) := dk_153 0 43 (dk_at dksX5_letters_0 16 rfl rfl)
theorem dX5_letters_19 : decode cX5_letters 19 = .ok (.aload_n 1, 1) := dk_43 (dk_at dksX5_letters_0 19 rfl rfl)
theorem dX5_letters_20 : decode cX5_letters 20 = .ok (.invokevirtual 65, 3) := dk_182 0 65 (dk_at dksX5_letters_0 20 rfl rfl)
theorem dX5_letters_23 : decode cX5_letters 23 = .ok (.bipush 6, 2) := dk_16 6 (dk_at dksX5_letters_1 0 rfl rfl)
theorem dX5_letters_25 : decode cX5_letters 25 = .ok (.if_icmp .ge 21, 3) := dk_162 0 21 (dk_at dksX5_letters_1 2 rfl rfl)
theorem dX5_letters_28 : decode cX5_letters 28 = .ok (.aload_n 1, 1) := dk_43 (dk_at dksX5_letters_1 5 rfl rfl)
theorem dX5_letters_29 : decode cX5_letters 29 = .ok (.aload_n 0, 1) := dk_42 (dk_at dksX5_letters_1 6 rfl rfl)
theorem dX5_letters_30 : decode cX5_letters 30 = .ok (.getfield 3, 3) := dk_180 0 3 (dk_at dksX5_letters_1 7 rfl rfl)
theorem dX5_letters_33 : decode cX5_letters 33 = .ok (.getfield 38, 3) := dk_180 0 38 (dk_at dksX5_letters_1 10 rfl rfl)
theorem dX5_letters_36 : decode cX5_letters 36 = .ok (.aload_n 0, 1) := dk_42 (dk_at dksX5_letters_1 13 rfl rfl)
theorem dX5_letters_37 : decode cX5_letters 37 = .ok (.getfield 31, 3) := dk_180 0 31 (dk_at dksX5_letters_1 14 rfl rfl)
theorem dX5_letters_40 : decode cX5_letters 40 = .ok (.baload, 1) := dk_51 (dk_at dksX5_letters_1 17 rfl rfl)
theorem dX5_letters_41 : decode cX5_letters 41 = .ok (.i2c, 1) := dk_146 (dk_at dksX5_letters_1 18 rfl rfl)
theorem dX5_letters_42 : decode cX5_letters 42 = .ok (.invokevirtual 69, 3) := dk_182 0 69 (dk_at dksX5_letters_1 19 rfl rfl)
theorem dX5_letters_45 : decode cX5_letters 45 = .ok (.pop, 1) := dk_87 (dk_at dksX5_letters_1 22 rfl rfl)
theorem dX5_letters_46 : decode cX5_letters 46 = .ok (.aload_n 0, 1) := dk_42 (dk_at dksX5_letters_1 23 rfl rfl)
theorem dX5_letters_47 : decode cX5_letters 47 = .ok (.dup, 1) := dk_89 (dk_at dksX5_letters_2 0 rfl rfl)
theorem dX5_letters_48 : decode cX5_letters 48 = .ok (.getfield 31, 3) := dk_180 0 31 (dk_at dksX5_letters_2 1 rfl rfl)
theorem dX5_letters_51 : decode cX5_letters 51 = .ok (.iconst 1, 1) := dk_4 (dk_at dksX5_letters_2 4 rfl rfl)
theorem dX5_letters_52 : decode cX5_letters 52 = .ok (.iadd, 1) := dk_96 (dk_at dksX5_letters_2 5 rfl rfl)
theorem dX5_letters_53 : decode cX5_letters 53 = .ok (.putfield 31, 3) := dk_181 0 31 (dk_at dksX5_letters_2 6 rfl rfl)
theorem dX5_letters_56 : decode cX5_letters 56 = .ok (.goto (-48), 3) := dk_167 255 208 (dk_at dksX5_letters_2 9 rfl rfl)
theorem dX5_letters_59 : decode cX5_letters 59 = .ok (.aload_n 0, 1) := dk_42 (dk_at dksX5_letters_2 12 rfl rfl)
theorem dX5_letters_60 : decode cX5_letters 60 = .ok (.aload_n 1, 1) := dk_43 (dk_at dksX5_letters_2 13 rfl rfl)
theorem dX5_letters_61 : decode cX5_letters 61 = .ok (.invokevirtual 73, 3) := dk_182 0 73 (dk_at dksX5_letters_2 14 rfl rfl)
theorem dX5_letters_64 : decode cX5_letters 64 = .ok (.putfield 24, 3) := dk_181 0 24 (dk_at dksX5_letters_2 17 rfl rfl)
theorem dX5_letters_67 : decode cX5_letters 67 = .ok (.aload_n 0, 1) := dk_42 (dk_at dksX5_letters_2 20 rfl rfl)
theorem dX5_letters_68 : decode cX5_letters 68 = .ok (.aload_n 0, 1) := dk_42 (dk_at dksX5_letters_2 21 rfl rfl)
theorem dX5_letters_69 : decode cX5_letters 69 = .ok (.getfield 24, 3) := dk_180 0 24 (dk_at dksX5_letters_3 0 rfl rfl)
theorem dX5_letters_72 : decode cX5_letters 72 = .ok (.invokestatic 77, 3) := dk_184 0 77 (dk_at dksX5_letters_3 3 rfl rfl)
theorem dX5_letters_75 : decode cX5_letters 75 = .ok (.putfield 53, 3) := dk_181 0 53 (dk_at dksX5_letters_3 6 rfl rfl)
theorem dX5_letters_78 : decode cX5_letters 78 = .ok (.return_, 1) := dk_177 (dk_at dksX5_letters_3 9 rfl rfl)
abbrev cX5_numerals : ByteArray := prog_12_method_5_code
def yX5_numerals : MethodName := ⟨RX5, "numerals", "()V"⟩
def dkwX5_numerals_4 : List UInt8 := [167, 0, 4, 6, 181, 0, 53, 177]
abbrev dktX5_numerals_4 : List UInt8 := dkwX5_numerals_4 ++ []
def dkwX5_numerals_3 : List UInt8 := [96, 181, 0, 31, 167, 255, 188, 42, 42, 180, 0, 31, 42, 180, 0, 50, 100, 7, 164, 0, 7, 8]
abbrev dktX5_numerals_3 : List UInt8 := dkwX5_numerals_3 ++ dktX5_numerals_4
def dkwX5_numerals_2 : List UInt8 := [180, 0, 31, 51, 96, 16, 48, 100, 167, 0, 7, 42, 180, 0, 81, 181, 0, 81, 42, 89, 180, 0, 31, 4]
abbrev dktX5_numerals_2 : List UInt8 := dkwX5_numerals_2 ++ dktX5_numerals_3
def dkwX5_numerals_1 : List UInt8 := [180, 0, 50, 100, 7, 162, 0, 29, 16, 10, 42, 180, 0, 81, 104, 42, 180, 0, 3, 180, 0, 38, 42]
abbrev dktX5_numerals_1 : List UInt8 := dkwX5_numerals_1 ++ dktX5_numerals_2
def dkwX5_numerals_0 : List UInt8 := [42, 3, 181, 0, 81, 42, 16, 48, 16, 57, 182, 0, 46, 153, 0, 63, 42, 42, 180, 0, 31, 42]
abbrev dktX5_numerals_0 : List UInt8 := dkwX5_numerals_0 ++ dktX5_numerals_1
theorem dksX5_numerals_0 : cX5_numerals.data.toList.drop 0 = dktX5_numerals_0 := by decide +kernel
theorem dksX5_numerals_1 : cX5_numerals.data.toList.drop 22 = dktX5_numerals_1 := dk_seg dksX5_numerals_0 22 rfl rfl
theorem dksX5_numerals_2 : cX5_numerals.data.toList.drop 45 = dktX5_numerals_2 := dk_seg dksX5_numerals_1 23 rfl rfl
theorem dksX5_numerals_3 : cX5_numerals.data.toList.drop 69 = dktX5_numerals_3 := dk_seg dksX5_numerals_2 24 rfl rfl
theorem dksX5_numerals_4 : cX5_numerals.data.toList.drop 91 = dktX5_numerals_4 := dk_seg dksX5_numerals_3 22 rfl rfl
theorem dX5_numerals_0 : decode cX5_numerals 0 = .ok (.aload_n 0, 1) := dk_42 (dk_at dksX5_numerals_0 0 rfl rfl)
theorem dX5_numerals_1 : decode cX5_numerals 1 = .ok (.iconst 0, 1) := dk_3 (dk_at dksX5_numerals_0 1 rfl rfl)
theorem dX5_numerals_2 : decode cX5_numerals 2 = .ok (.putfield 81, 3) := dk_181 0 81 (dk_at dksX5_numerals_0 2 rfl rfl)
theorem dX5_numerals_5 : decode cX5_numerals 5 = .ok (.aload_n 0, 1) := dk_42 (dk_at dksX5_numerals_0 5 rfl rfl)
theorem dX5_numerals_6 : decode cX5_numerals 6 = .ok (.bipush 48, 2) := dk_16 48 (dk_at dksX5_numerals_0 6 rfl rfl)
theorem dX5_numerals_8 : decode cX5_numerals 8 = .ok (.bipush 57, 2) := dk_16 57 (dk_at dksX5_numerals_0 8 rfl rfl)
theorem dX5_numerals_10 : decode cX5_numerals 10 = .ok (.invokevirtual 46, 3) := dk_182 0 46 (dk_at dksX5_numerals_0 10 rfl rfl)
theorem dX5_numerals_13 : decode cX5_numerals 13 = .ok (.ifCond .eq 63, 3) := dk_153 0 63 (dk_at dksX5_numerals_0 13 rfl rfl)
theorem dX5_numerals_16 : decode cX5_numerals 16 = .ok (.aload_n 0, 1) := dk_42 (dk_at dksX5_numerals_0 16 rfl rfl)
theorem dX5_numerals_17 : decode cX5_numerals 17 = .ok (.aload_n 0, 1) := dk_42 (dk_at dksX5_numerals_0 17 rfl rfl)
theorem dX5_numerals_18 : decode cX5_numerals 18 = .ok (.getfield 31, 3) := dk_180 0 31 (dk_at dksX5_numerals_0 18 rfl rfl)
theorem dX5_numerals_21 : decode cX5_numerals 21 = .ok (.aload_n 0, 1) := dk_42 (dk_at dksX5_numerals_0 21 rfl rfl)
theorem dX5_numerals_22 : decode cX5_numerals 22 = .ok (.getfield 50, 3) := dk_180 0 50 (dk_at dksX5_numerals_1 0 rfl rfl)
theorem dX5_numerals_25 : decode cX5_numerals 25 = .ok (.isub, 1) := dk_100 (dk_at dksX5_numerals_1 3 rfl rfl)
theorem dX5_numerals_26 : decode cX5_numerals 26 = .ok (.iconst 4, 1) := dk_7 (dk_at dksX5_numerals_1 4 rfl rfl)
theorem dX5_numerals_27 : decode cX5_numerals 27 = .ok (.if_icmp .ge 29, 3) := dk_162 0 29 (dk_at dksX5_numerals_1 5 rfl rfl)
theorem dX5_numerals_30 : decode cX5_numerals 30 = .ok (.bipush 10, 2) := dk_16 10 (dk_at dksX5_numerals_1 8 rfl rfl)
theorem dX5_numerals_32 : decode cX5_numerals 32 = .ok (.aload_n 0, 1) := dk_42 (dk_at dksX5_numerals_1 10 rfl rfl)
theorem dX5_numerals_33 : decode cX5_numerals 33 = .ok (.getfield 81, 3) := dk_180 0 81 (dk_at dksX5_numerals_1 11 rfl rfl)
theorem dX5_numerals_36 : decode cX5_numerals 36 = .ok (.imul, 1) := dk_104 (dk_at dksX5_numerals_1 14 rfl rfl)
theorem dX5_numerals_37 : decode cX5_numerals 37 = .ok (.aload_n 0, 1) := dk_42 (dk_at dksX5_numerals_1 15 rfl rfl)
theorem dX5_numerals_38 : decode cX5_numerals 38 = .ok (.getfield 3, 3) := dk_180 0 3 (dk_at dksX5_numerals_1 16 rfl rfl)
theorem dX5_numerals_41 : decode cX5_numerals 41 = .ok (.getfield 38, 3) := dk_180 0 38 (dk_at dksX5_numerals_1 19 rfl rfl)
theorem dX5_numerals_44 : decode cX5_numerals 44 = .ok (.aload_n 0, 1) := dk_42 (dk_at dksX5_numerals_1 22 rfl rfl)
theorem dX5_numerals_45 : decode cX5_numerals 45 = .ok (.getfield 31, 3) := dk_180 0 31 (dk_at dksX5_numerals_2 0 rfl rfl)
theorem dX5_numerals_48 : decode cX5_numerals 48 = .ok (.baload, 1) := dk_51 (dk_at dksX5_numerals_2 3 rfl rfl)
theorem dX5_numerals_49 : decode cX5_numerals 49 = .ok (.iadd, 1) := dk_96 (dk_at dksX5_numerals_2 4 rfl rfl)
theorem dX5_numerals_50 : decode cX5_numerals 50 = .ok (.bipush 48, 2) := dk_16 48 (dk_at dksX5_numerals_2 5 rfl rfl)
theorem dX5_numerals_52 : decode cX5_numerals 52 = .ok (.isub, 1) := dk_100 (dk_at dksX5_numerals_2 7 rfl rfl)
theorem dX5_numerals_53 : decode cX5_numerals 53 = .ok (.goto 7, 3) := dk_167 0 7 (dk_at dksX5_numerals_2 8 rfl rfl)
theorem dX5_numerals_56 : decode cX5_numerals 56 = .ok (.aload_n 0, 1) := dk_42 (dk_at dksX5_numerals_2 11 rfl rfl)
theorem dX5_numerals_57 : decode cX5_numerals 57 = .ok (.getfield 81, 3) := dk_180 0 81 (dk_at dksX5_numerals_2 12 rfl rfl)
theorem dX5_numerals_60 : decode cX5_numerals 60 = .ok (.putfield 81, 3) := dk_181 0 81 (dk_at dksX5_numerals_2 15 rfl rfl)
theorem dX5_numerals_63 : decode cX5_numerals 63 = .ok (.aload_n 0, 1) := dk_42 (dk_at dksX5_numerals_2 18 rfl rfl)
theorem dX5_numerals_64 : decode cX5_numerals 64 = .ok (.dup, 1) := dk_89 (dk_at dksX5_numerals_2 19 rfl rfl)
theorem dX5_numerals_65 : decode cX5_numerals 65 = .ok (.getfield 31, 3) := dk_180 0 31 (dk_at dksX5_numerals_2 20 rfl rfl)
theorem dX5_numerals_68 : decode cX5_numerals 68 = .ok (.iconst 1, 1) := dk_4 (dk_at dksX5_numerals_2 23 rfl rfl)
theorem dX5_numerals_69 : decode cX5_numerals 69 = .ok (.iadd, 1) := dk_96 (dk_at dksX5_numerals_3 0 rfl rfl)
theorem dX5_numerals_70 : decode cX5_numerals 70 = .ok (.putfield 31, 3) := dk_181 0 31 (dk_at dksX5_numerals_3 1 rfl rfl)
theorem dX5_numerals_73 : decode cX5_numerals 73 = .ok (.goto (-68), 3) := dk_167 255 188 (dk_at dksX5_numerals_3 4 rfl rfl)
theorem dX5_numerals_76 : decode cX5_numerals 76 = .ok (.aload_n 0, 1) := dk_42 (dk_at dksX5_numerals_3 7 rfl rfl)
theorem dX5_numerals_77 : decode cX5_numerals 77 = .ok (.aload_n 0, 1) := dk_42 (dk_at dksX5_numerals_3 8 rfl rfl)
theorem dX5_numerals_78 : decode cX5_numerals 78 = .ok (.getfield 31, 3) := dk_180 0 31 (dk_at dksX5_numerals_3 9 rfl rfl)
theorem dX5_numerals_81 : decode cX5_numerals 81 = .ok (.aload_n 0, 1) := dk_42 (dk_at dksX5_numerals_3 12 rfl rfl)
theorem dX5_numerals_82 : decode cX5_numerals 82 = .ok (.getfield 50, 3) := dk_180 0 50 (dk_at dksX5_numerals_3 13 rfl rfl)
theorem dX5_numerals_85 : decode cX5_numerals 85 = .ok (.isub, 1) := dk_100 (dk_at dksX5_numerals_3 16 rfl rfl)
theorem dX5_numerals_86 : decode cX5_numerals 86 = .ok (.iconst 4, 1) := dk_7 (dk_at dksX5_numerals_3 17 rfl rfl)
theorem dX5_numerals_87 : decode cX5_numerals 87 = .ok (.if_icmp .le 7, 3) := dk_164 0 7 (dk_at dksX5_numerals_3 18 rfl rfl)
theorem dX5_numerals_90 : decode cX5_numerals 90 = .ok (.iconst 5, 1) := dk_8 (dk_at dksX5_numerals_3 21 rfl rfl)
theorem dX5_numerals_91 : decode cX5_numerals 91 = .ok (.goto 4, 3) := dk_167 0 4 (dk_at dksX5_numerals_4 0 rfl rfl)
theorem dX5_numerals_94 : decode cX5_numerals 94 = .ok (.iconst 3, 1) := dk_6 (dk_at dksX5_numerals_4 3 rfl rfl)
theorem dX5_numerals_95 : decode cX5_numerals 95 = .ok (.putfield 53, 3) := dk_181 0 53 (dk_at dksX5_numerals_4 4 rfl rfl)
theorem dX5_numerals_98 : decode cX5_numerals 98 = .ok (.return_, 1) := dk_177 (dk_at dksX5_numerals_4 7 rfl rfl)
abbrev cX5_setup : ByteArray := prog_12_method_17_code
def yX5_setup : MethodName := ⟨RX5, "setup", "()V"⟩
def dkwX5_setup_6 : List UInt8 := [180, 0, 53, 153, 0, 10, 42, 182, 0, 230, 167, 255, 245, 177]
abbrev dktX5_setup_6 : List UInt8 := dkwX5_setup_6 ++ []
def dkwX5_setup_5 : List UInt8 := [182, 0, 224, 167, 255, 243, 42, 18, 226, 182, 0, 131, 153, 0, 10, 42, 182, 0, 228, 167, 255, 243, 42]
abbrev dktX5_setup_5 : List UInt8 := dkwX5_setup_5 ++ dktX5_setup_6
def dkwX5_setup_4 : List UInt8 := [182, 0, 131, 153, 0, 10, 42, 182, 0, 220, 167, 255, 243, 42, 18, 222, 182, 0, 131, 153, 0, 10, 42]
abbrev dktX5_setup_4 : List UInt8 := dkwX5_setup_4 ++ dktX5_setup_5
def dkwX5_setup_3 : List UInt8 := [182, 0, 216, 42, 18, 129, 182, 0, 131, 153, 0, 10, 42, 182, 0, 216, 167, 255, 243, 42, 18, 218]
abbrev dktX5_setup_3 : List UInt8 := dkwX5_setup_3 ++ dktX5_setup_4
def dkwX5_setup_2 : List UInt8 := [182, 0, 173, 182, 0, 212, 42, 42, 180, 0, 53, 7, 160, 0, 7, 4, 167, 0, 4, 3, 182, 0, 95, 42]
abbrev dktX5_setup_2 : List UInt8 := dkwX5_setup_2 ++ dktX5_setup_3
def dkwX5_setup_1 : List UInt8 := [182, 0, 173, 61, 42, 42, 18, 210, 182, 0, 131, 182, 0, 95, 42, 180, 0, 18, 27, 28, 42, 4, 16, 99]
abbrev dktX5_setup_1 : List UInt8 := dkwX5_setup_1 ++ dktX5_setup_2
def dkwX5_setup_0 : List UInt8 := [42, 42, 18, 208, 182, 0, 131, 182, 0, 95, 42, 4, 16, 20, 182, 0, 173, 60, 42, 4, 16, 20]
abbrev dktX5_setup_0 : List UInt8 := dkwX5_setup_0 ++ dktX5_setup_1
theorem dksX5_setup_0 : cX5_setup.data.toList.drop 0 = dktX5_setup_0 := by decide +kernel
theorem dksX5_setup_1 : cX5_setup.data.toList.drop 22 = dktX5_setup_1 := dk_seg dksX5_setup_0 22 rfl rfl
theorem dksX5_setup_2 : cX5_setup.data.toList.drop 46 = dktX5_setup_2 := dk_seg dksX5_setup_1 24 rfl rfl
theorem dksX5_setup_3 : cX5_setup.data.toList.drop 70 = dktX5_setup_3 := dk_seg dksX5_setup_2 24 rfl rfl
theorem dksX5_setup_4 : cX5_setup.data.toList.drop 92 = dktX5_setup_4 := dk_seg dksX5_setup_3 22 rfl rfl
theorem dksX5_setup_5 : cX5_setup.data.toList.drop 115 = dktX5_setup_5 := dk_seg dksX5_setup_4 23 rfl rfl
theorem dksX5_setup_6 : cX5_setup.data.toList.drop 138 = dktX5_setup_6 := dk_seg dksX5_setup_5 23 rfl rfl
theorem dX5_setup_0 : decode cX5_setup 0 = .ok (.aload_n 0, 1) := dk_42 (dk_at dksX5_setup_0 0 rfl rfl)
theorem dX5_setup_1 : decode cX5_setup 1 = .ok (.aload_n 0, 1) := dk_42 (dk_at dksX5_setup_0 1 rfl rfl)
theorem dX5_setup_2 : decode cX5_setup 2 = .ok (.ldc 208, 2) := dk_18 208 (dk_at dksX5_setup_0 2 rfl rfl)
theorem dX5_setup_4 : decode cX5_setup 4 = .ok (.invokevirtual 131, 3) := dk_182 0 131 (dk_at dksX5_setup_0 4 rfl rfl)
theorem dX5_setup_7 : decode cX5_setup 7 = .ok (.invokevirtual 95, 3) := dk_182 0 95 (dk_at dksX5_setup_0 7 rfl rfl)
theorem dX5_setup_10 : decode cX5_setup 10 = .ok (.aload_n 0, 1) := dk_42 (dk_at dksX5_setup_0 10 rfl rfl)
theorem dX5_setup_11 : decode cX5_setup 11 = .ok (.iconst 1, 1) := dk_4 (dk_at dksX5_setup_0 11 rfl rfl)
theorem dX5_setup_12 : decode cX5_setup 12 = .ok (.bipush 20, 2) := dk_16 20 (dk_at dksX5_setup_0 12 rfl rfl)
theorem dX5_setup_14 : decode cX5_setup 14 = .ok (.invokevirtual 173, 3) := dk_182 0 173 (dk_at dksX5_setup_0 14 rfl rfl)
theorem dX5_setup_17 : decode cX5_setup 17 = .ok (.istore_n 1, 1) := dk_60 (dk_at dksX5_setup_0 17 rfl rfl)
theorem dX5_setup_18 : decode cX5_setup 18 = .ok (.aload_n 0, 1) := dk_42 (dk_at dksX5_setup_0 18 rfl rfl)
theorem dX5_setup_19 : decode cX5_setup 19 = .ok (.iconst 1, 1) := dk_4 (dk_at dksX5_setup_0 19 rfl rfl)
theorem dX5_setup_20 : decode cX5_setup 20 = .ok (.bipush 20, 2) := dk_16 20 (dk_at dksX5_setup_0 20 rfl rfl)
theorem dX5_setup_22 : decode cX5_setup 22 = .ok (.invokevirtual 173, 3) := dk_182 0 173 (dk_at dksX5_setup_1 0 rfl rfl)
theorem dX5_setup_25 : decode cX5_setup 25 = .ok (.istore_n 2, 1) := dk_61 (dk_at dksX5_setup_1 3 rfl rfl)
theorem dX5_setup_26 : decode cX5_setup 26 = .ok (.aload_n 0, 1) := dk_42 (dk_at dksX5_setup_1 4 rfl rfl)
theorem dX5_setup_27 : decode cX5_setup 27 = .ok (.aload_n 0, 1) := dk_42 (dk_at dksX5_setup_1 5 rfl rfl)
theorem dX5_setup_28 : decode cX5_setup 28 = .ok (.ldc 210, 2) := dk_18 210 (dk_at dksX5_setup_1 6 rfl rfl)
theorem dX5_setup_30 : decode cX5_setup 30 = .ok (.invokevirtual 131, 3) := dk_182 0 131 (dk_at dksX5_setup_1 8 rfl rfl)
theorem dX5_setup_33 : decode cX5_setup 33 = .ok (.invokevirtual 95, 3) := dk_182 0 95 (dk_at dksX5_setup_1 11 rfl rfl)
theorem dX5_setup_36 : decode cX5_setup 36 = .ok (.aload_n 0, 1) := dk_42 (dk_at dksX5_setup_1 14 rfl rfl)
theorem dX5_setup_37 : decode cX5_setup 37 = .ok (.getfield 18, 3) := dk_180 0 18 (dk_at dksX5_setup_1 15 rfl rfl)
theorem dX5_setup_40 : decode cX5_setup 40 = .ok (.iload_n 1, 1) := dk_27 (dk_at dksX5_setup_1 18 rfl rfl)
theorem dX5_setup_41 : decode cX5_setup 41 = .ok (.iload_n 2, 1) := dk_28 (dk_at dksX5_setup_1 19 rfl rfl)
theorem dX5_setup_42 : decode cX5_setup 42 = .ok (.aload_n 0, 1) := dk_42 (dk_at dksX5_setup_1 20 rfl rfl)
theorem dX5_setup_43 : decode cX5_setup 43 = .ok (.iconst 1, 1) := dk_4 (dk_at dksX5_setup_1 21 rfl rfl)
theorem dX5_setup_44 : decode cX5_setup 44 = .ok (.bipush 99, 2) := dk_16 99 (dk_at dksX5_setup_1 22 rfl rfl)
theorem dX5_setup_46 : decode cX5_setup 46 = .ok (.invokevirtual 173, 3) := dk_182 0 173 (dk_at dksX5_setup_2 0 rfl rfl)
theorem dX5_setup_49 : decode cX5_setup 49 = .ok (.invokevirtual 212, 3) := dk_182 0 212 (dk_at dksX5_setup_2 3 rfl rfl)
theorem dX5_setup_52 : decode cX5_setup 52 = .ok (.aload_n 0, 1) := dk_42 (dk_at dksX5_setup_2 6 rfl rfl)
theorem dX5_setup_53 : decode cX5_setup 53 = .ok (.aload_n 0, 1) := dk_42 (dk_at dksX5_setup_2 7 rfl rfl)
theorem dX5_setup_54 : decode cX5_setup 54 = .ok (.getfield 53, 3) := dk_180 0 53 (dk_at dksX5_setup_2 8 rfl rfl)
theorem dX5_setup_57 : decode cX5_setup 57 = .ok (.iconst 4, 1) := dk_7 (dk_at dksX5_setup_2 11 rfl rfl)
theorem dX5_setup_58 : decode cX5_setup 58 = .ok (.if_icmp .ne 7, 3) := dk_160 0 7 (dk_at dksX5_setup_2 12 rfl rfl)
theorem dX5_setup_61 : decode cX5_setup 61 = .ok (.iconst 1, 1) := dk_4 (dk_at dksX5_setup_2 15 rfl rfl)
theorem dX5_setup_62 : decode cX5_setup 62 = .ok (.goto 4, 3) := dk_167 0 4 (dk_at dksX5_setup_2 16 rfl rfl)
theorem dX5_setup_65 : decode cX5_setup 65 = .ok (.iconst 0, 1) := dk_3 (dk_at dksX5_setup_2 19 rfl rfl)
theorem dX5_setup_66 : decode cX5_setup 66 = .ok (.invokevirtual 95, 3) := dk_182 0 95 (dk_at dksX5_setup_2 20 rfl rfl)
theorem dX5_setup_69 : decode cX5_setup 69 = .ok (.aload_n 0, 1) := dk_42 (dk_at dksX5_setup_2 23 rfl rfl)
theorem dX5_setup_70 : decode cX5_setup 70 = .ok (.invokevirtual 216, 3) := dk_182 0 216 (dk_at dksX5_setup_3 0 rfl rfl)
theorem dX5_setup_73 : decode cX5_setup 73 = .ok (.aload_n 0, 1) := dk_42 (dk_at dksX5_setup_3 3 rfl rfl)
theorem dX5_setup_74 : decode cX5_setup 74 = .ok (.ldc 129, 2) := dk_18 129 (dk_at dksX5_setup_3 4 rfl rfl)
theorem dX5_setup_76 : decode cX5_setup 76 = .ok (.invokevirtual 131, 3) := dk_182 0 131 (dk_at dksX5_setup_3 6 rfl rfl)
theorem dX5_setup_79 : decode cX5_setup 79 = .ok (.ifCond .eq 10, 3) := dk_153 0 10 (dk_at dksX5_setup_3 9 rfl rfl)
theorem dX5_setup_82 : decode cX5_setup 82 = .ok (.aload_n 0, 1) := dk_42 (dk_at dksX5_setup_3 12 rfl rfl)
theorem dX5_setup_83 : decode cX5_setup 83 = .ok (.invokevirtual 216, 3) := dk_182 0 216 (dk_at dksX5_setup_3 13 rfl rfl)
theorem dX5_setup_86 : decode cX5_setup 86 = .ok (.goto (-13), 3) := dk_167 255 243 (dk_at dksX5_setup_3 16 rfl rfl)
theorem dX5_setup_89 : decode cX5_setup 89 = .ok (.aload_n 0, 1) := dk_42 (dk_at dksX5_setup_3 19 rfl rfl)
theorem dX5_setup_90 : decode cX5_setup 90 = .ok (.ldc 218, 2) := dk_18 218 (dk_at dksX5_setup_3 20 rfl rfl)
theorem dX5_setup_92 : decode cX5_setup 92 = .ok (.invokevirtual 131, 3) := dk_182 0 131 (dk_at dksX5_setup_4 0 rfl rfl)
theorem dX5_setup_95 : decode cX5_setup 95 = .ok (.ifCond .eq 10, 3) := dk_153 0 10 (dk_at dksX5_setup_4 3 rfl rfl)
theorem dX5_setup_98 : decode cX5_setup 98 = .ok (.aload_n 0, 1) := dk_42 (dk_at dksX5_setup_4 6 rfl rfl)
theorem dX5_setup_99 : decode cX5_setup 99 = .ok (.invokevirtual 220, 3) := dk_182 0 220 (dk_at dksX5_setup_4 7 rfl rfl)
theorem dX5_setup_102 : decode cX5_setup 102 = .ok (.goto (-13), 3) := dk_167 255 243 (dk_at dksX5_setup_4 10 rfl rfl)
theorem dX5_setup_105 : decode cX5_setup 105 = .ok (.aload_n 0, 1) := dk_42 (dk_at dksX5_setup_4 13 rfl rfl)
theorem dX5_setup_106 : decode cX5_setup 106 = .ok (.ldc 222, 2) := dk_18 222 (dk_at dksX5_setup_4 14 rfl rfl)
theorem dX5_setup_108 : decode cX5_setup 108 = .ok (.invokevirtual 131, 3) := dk_182 0 131 (dk_at dksX5_setup_4 16 rfl rfl)
theorem dX5_setup_111 : decode cX5_setup 111 = .ok (.ifCond .eq 10, 3) := dk_153 0 10 (dk_at dksX5_setup_4 19 rfl rfl)
theorem dX5_setup_114 : decode cX5_setup 114 = .ok (.aload_n 0, 1) := dk_42 (dk_at dksX5_setup_4 22 rfl rfl)
theorem dX5_setup_115 : decode cX5_setup 115 = .ok (.invokevirtual 224, 3) := dk_182 0 224 (dk_at dksX5_setup_5 0 rfl rfl)
theorem dX5_setup_118 : decode cX5_setup 118 = .ok (.goto (-13), 3) := dk_167 255 243 (dk_at dksX5_setup_5 3 rfl rfl)
theorem dX5_setup_121 : decode cX5_setup 121 = .ok (.aload_n 0, 1) := dk_42 (dk_at dksX5_setup_5 6 rfl rfl)
theorem dX5_setup_122 : decode cX5_setup 122 = .ok (.ldc 226, 2) := dk_18 226 (dk_at dksX5_setup_5 7 rfl rfl)
theorem dX5_setup_124 : decode cX5_setup 124 = .ok (.invokevirtual 131, 3) := dk_182 0 131 (dk_at dksX5_setup_5 9 rfl rfl)
theorem dX5_setup_127 : decode cX5_setup 127 = .ok (.ifCond .eq 10, 3) := dk_153 0 10 (dk_at dksX5_setup_5 12 rfl rfl)
theorem dX5_setup_130 : decode cX5_setup 130 = .ok (.aload_n 0, 1) := dk_42 (dk_at dksX5_setup_5 15 rfl rfl)
theorem dX5_setup_131 : decode cX5_setup 131 = .ok (.invokevirtual 228, 3) := dk_182 0 228 (dk_at dksX5_setup_5 16 rfl rfl)
theorem dX5_setup_134 : decode cX5_setup 134 = .ok (.goto (-13), 3) := dk_167 255 243 (dk_at dksX5_setup_5 19 rfl rfl)
theorem dX5_setup_137 : decode cX5_setup 137 = .ok (.aload_n 0, 1) := dk_42 (dk_at dksX5_setup_5 22 rfl rfl)
theorem dX5_setup_138 : decode cX5_setup 138 = .ok (.getfield 53, 3) := dk_180 0 53 (dk_at dksX5_setup_6 0 rfl rfl)
theorem dX5_setup_141 : decode cX5_setup 141 = .ok (.ifCond .eq 10, 3) := dk_153 0 10 (dk_at dksX5_setup_6 3 rfl rfl)
theorem dX5_setup_144 : decode cX5_setup 144 = .ok (.aload_n 0, 1) := dk_42 (dk_at dksX5_setup_6 6 rfl rfl)
theorem dX5_setup_145 : decode cX5_setup 145 = .ok (.invokevirtual 230, 3) := dk_182 0 230 (dk_at dksX5_setup_6 7 rfl rfl)
theorem dX5_setup_148 : decode cX5_setup 148 = .ok (.goto (-11), 3) := dk_167 255 245 (dk_at dksX5_setup_6 10 rfl rfl)
theorem dX5_setup_151 : decode cX5_setup 151 = .ok (.return_, 1) := dk_177 (dk_at dksX5_setup_6 13 rfl rfl)
abbrev cX5_isKey : ByteArray := prog_12_method_7_code
def yX5_isKey : MethodName := ⟨RX5, "isKey", "(Ljava/lang/String;)Z"⟩
def dkwX5_isKey_1 : List UInt8 := [172]
abbrev dktX5_isKey_1 : List UInt8 := dkwX5_isKey_1 ++ []
def dkwX5_isKey_0 : List UInt8 := [42, 180, 0, 53, 4, 160, 0, 18, 42, 180, 0, 24, 43, 182, 0, 89, 153, 0, 7, 4, 167, 0, 4, 3]
abbrev dktX5_isKey_0 : List UInt8 := dkwX5_isKey_0 ++ dktX5_isKey_1
theorem dksX5_isKey_0 : cX5_isKey.data.toList.drop 0 = dktX5_isKey_0 := by decide +kernel
theorem dksX5_isKey_1 : cX5_isKey.data.toList.drop 24 = dktX5_isKey_1 := dk_seg dksX5_isKey_0 24 rfl rfl
theorem dX5_isKey_0 : decode cX5_isKey 0 = .ok (.aload_n 0, 1) := dk_42 (dk_at dksX5_isKey_0 0 rfl rfl)
theorem dX5_isKey_1 : decode cX5_isKey 1 = .ok (.getfield 53, 3) := dk_180 0 53 (dk_at dksX5_isKey_0 1 rfl rfl)
theorem dX5_isKey_4 : decode cX5_isKey 4 = .ok (.iconst 1, 1) := dk_4 (dk_at dksX5_isKey_0 4 rfl rfl)
theorem dX5_isKey_5 : decode cX5_isKey 5 = .ok (.if_icmp .ne 18, 3) := dk_160 0 18 (dk_at dksX5_isKey_0 5 rfl rfl)
theorem dX5_isKey_8 : decode cX5_isKey 8 = .ok (.aload_n 0, 1) := dk_42 (dk_at dksX5_isKey_0 8 rfl rfl)
theorem dX5_isKey_9 : decode cX5_isKey 9 = .ok (.getfield 24, 3) := dk_180 0 24 (dk_at dksX5_isKey_0 9 rfl rfl)
theorem dX5_isKey_12 : decode cX5_isKey 12 = .ok (.aload_n 1, 1) := dk_43 (dk_at dksX5_isKey_0 12 rfl rfl)
theorem dX5_isKey_13 : decode cX5_isKey 13 = .ok (.invokevirtual 89, 3) := dk_182 0 89 (dk_at dksX5_isKey_0 13 rfl rfl)
theorem dX5_isKey_16 : decode cX5_isKey 16 = .ok (.ifCond .eq 7, 3) := dk_153 0 7 (dk_at dksX5_isKey_0 16 rfl rfl)
theorem dX5_isKey_19 : decode cX5_isKey 19 = .ok (.iconst 1, 1) := dk_4 (dk_at dksX5_isKey_0 19 rfl rfl)
theorem dX5_isKey_20 : decode cX5_isKey 20 = .ok (.goto 4, 3) := dk_167 0 4 (dk_at dksX5_isKey_0 20 rfl rfl)
theorem dX5_isKey_23 : decode cX5_isKey 23 = .ok (.iconst 0, 1) := dk_3 (dk_at dksX5_isKey_0 23 rfl rfl)
theorem dX5_isKey_24 : decode cX5_isKey 24 = .ok (.ireturn, 1) := dk_172 (dk_at dksX5_isKey_1 0 rfl rfl)
abbrev cX5_takes : ByteArray := prog_12_method_6_code
def yX5_takes : MethodName := ⟨RX5, "takes", "(Z)V"⟩
def dkwX5_takes_0 : List UInt8 := [27, 154, 0, 15, 187, 0, 84, 89, 42, 180, 0, 50, 183, 0, 86, 191, 42, 182, 0, 28, 177]
abbrev dktX5_takes_0 : List UInt8 := dkwX5_takes_0 ++ []
theorem dksX5_takes_0 : cX5_takes.data.toList.drop 0 = dktX5_takes_0 := by decide +kernel
theorem dX5_takes_0 : decode cX5_takes 0 = .ok (.iload_n 1, 1) := dk_27 (dk_at dksX5_takes_0 0 rfl rfl)
theorem dX5_takes_1 : decode cX5_takes 1 = .ok (.ifCond .ne 15, 3) := dk_154 0 15 (dk_at dksX5_takes_0 1 rfl rfl)
theorem dX5_takes_4 : decode cX5_takes 4 = .ok (.new 84, 3) := dk_187 0 84 (dk_at dksX5_takes_0 4 rfl rfl)
theorem dX5_takes_7 : decode cX5_takes 7 = .ok (.dup, 1) := dk_89 (dk_at dksX5_takes_0 7 rfl rfl)
theorem dX5_takes_8 : decode cX5_takes 8 = .ok (.aload_n 0, 1) := dk_42 (dk_at dksX5_takes_0 8 rfl rfl)
theorem dX5_takes_9 : decode cX5_takes 9 = .ok (.getfield 50, 3) := dk_180 0 50 (dk_at dksX5_takes_0 9 rfl rfl)
theorem dX5_takes_12 : decode cX5_takes 12 = .ok (.invokespecial 86, 3) := dk_183 0 86 (dk_at dksX5_takes_0 12 rfl rfl)
theorem dX5_takes_15 : decode cX5_takes 15 = .ok (.athrow, 1) := dk_191 (dk_at dksX5_takes_0 15 rfl rfl)
theorem dX5_takes_16 : decode cX5_takes 16 = .ok (.aload_n 0, 1) := dk_42 (dk_at dksX5_takes_0 16 rfl rfl)
theorem dX5_takes_17 : decode cX5_takes 17 = .ok (.invokevirtual 28, 3) := dk_182 0 28 (dk_at dksX5_takes_0 17 rfl rfl)
theorem dX5_takes_20 : decode cX5_takes 20 = .ok (.return_, 1) := dk_177 (dk_at dksX5_takes_0 20 rfl rfl)
abbrev cX5_upTo : ByteArray := prog_12_method_9_code
def yX5_upTo : MethodName := ⟨RX5, "upTo", "(II)I"⟩
def dkwX5_upTo_0 : List UInt8 := [42, 42, 180, 0, 81, 27, 28, 184, 0, 42, 182, 0, 99, 172]
abbrev dktX5_upTo_0 : List UInt8 := dkwX5_upTo_0 ++ []
theorem dksX5_upTo_0 : cX5_upTo.data.toList.drop 0 = dktX5_upTo_0 := by decide +kernel
theorem dX5_upTo_0 : decode cX5_upTo 0 = .ok (.aload_n 0, 1) := dk_42 (dk_at dksX5_upTo_0 0 rfl rfl)
theorem dX5_upTo_1 : decode cX5_upTo 1 = .ok (.aload_n 0, 1) := dk_42 (dk_at dksX5_upTo_0 1 rfl rfl)
theorem dX5_upTo_2 : decode cX5_upTo 2 = .ok (.getfield 81, 3) := dk_180 0 81 (dk_at dksX5_upTo_0 2 rfl rfl)
theorem dX5_upTo_5 : decode cX5_upTo 5 = .ok (.iload_n 1, 1) := dk_27 (dk_at dksX5_upTo_0 5 rfl rfl)
theorem dX5_upTo_6 : decode cX5_upTo 6 = .ok (.iload_n 2, 1) := dk_28 (dk_at dksX5_upTo_0 6 rfl rfl)
theorem dX5_upTo_7 : decode cX5_upTo 7 = .ok (.invokestatic 42, 3) := dk_184 0 42 (dk_at dksX5_upTo_0 7 rfl rfl)
theorem dX5_upTo_10 : decode cX5_upTo 10 = .ok (.invokevirtual 99, 3) := dk_182 0 99 (dk_at dksX5_upTo_0 10 rfl rfl)
theorem dX5_upTo_13 : decode cX5_upTo 13 = .ok (.ireturn, 1) := dk_172 (dk_at dksX5_upTo_0 13 rfl rfl)
abbrev cX5_fits : ByteArray := prog_12_method_8_code
def yX5_fits : MethodName := ⟨RX5, "fits", "(Z)I"⟩
def dkwX5_fits_1 : List UInt8 := [182, 0, 95, 28, 172]
abbrev dktX5_fits_1 : List UInt8 := dkwX5_fits_1 ++ []
def dkwX5_fits_0 : List UInt8 := [42, 180, 0, 81, 61, 42, 42, 180, 0, 53, 6, 160, 0, 11, 27, 153, 0, 7, 4, 167, 0, 4, 3]
abbrev dktX5_fits_0 : List UInt8 := dkwX5_fits_0 ++ dktX5_fits_1
theorem dksX5_fits_0 : cX5_fits.data.toList.drop 0 = dktX5_fits_0 := by decide +kernel
theorem dksX5_fits_1 : cX5_fits.data.toList.drop 23 = dktX5_fits_1 := dk_seg dksX5_fits_0 23 rfl rfl
theorem dX5_fits_0 : decode cX5_fits 0 = .ok (.aload_n 0, 1) := dk_42 (dk_at dksX5_fits_0 0 rfl rfl)
theorem dX5_fits_1 : decode cX5_fits 1 = .ok (.getfield 81, 3) := dk_180 0 81 (dk_at dksX5_fits_0 1 rfl rfl)
theorem dX5_fits_4 : decode cX5_fits 4 = .ok (.istore_n 2, 1) := dk_61 (dk_at dksX5_fits_0 4 rfl rfl)
theorem dX5_fits_5 : decode cX5_fits 5 = .ok (.aload_n 0, 1) := dk_42 (dk_at dksX5_fits_0 5 rfl rfl)
theorem dX5_fits_6 : decode cX5_fits 6 = .ok (.aload_n 0, 1) := dk_42 (dk_at dksX5_fits_0 6 rfl rfl)
theorem dX5_fits_7 : decode cX5_fits 7 = .ok (.getfield 53, 3) := dk_180 0 53 (dk_at dksX5_fits_0 7 rfl rfl)
theorem dX5_fits_10 : decode cX5_fits 10 = .ok (.iconst 3, 1) := dk_6 (dk_at dksX5_fits_0 10 rfl rfl)
theorem dX5_fits_11 : decode cX5_fits 11 = .ok (.if_icmp .ne 11, 3) := dk_160 0 11 (dk_at dksX5_fits_0 11 rfl rfl)
theorem dX5_fits_14 : decode cX5_fits 14 = .ok (.iload_n 1, 1) := dk_27 (dk_at dksX5_fits_0 14 rfl rfl)
theorem dX5_fits_15 : decode cX5_fits 15 = .ok (.ifCond .eq 7, 3) := dk_153 0 7 (dk_at dksX5_fits_0 15 rfl rfl)
theorem dX5_fits_18 : decode cX5_fits 18 = .ok (.iconst 1, 1) := dk_4 (dk_at dksX5_fits_0 18 rfl rfl)
theorem dX5_fits_19 : decode cX5_fits 19 = .ok (.goto 4, 3) := dk_167 0 4 (dk_at dksX5_fits_0 19 rfl rfl)
theorem dX5_fits_22 : decode cX5_fits 22 = .ok (.iconst 0, 1) := dk_3 (dk_at dksX5_fits_0 22 rfl rfl)
theorem dX5_fits_23 : decode cX5_fits 23 = .ok (.invokevirtual 95, 3) := dk_182 0 95 (dk_at dksX5_fits_1 0 rfl rfl)
theorem dX5_fits_26 : decode cX5_fits 26 = .ok (.iload_n 2, 1) := dk_28 (dk_at dksX5_fits_1 3 rfl rfl)
theorem dX5_fits_27 : decode cX5_fits 27 = .ok (.ireturn, 1) := dk_172 (dk_at dksX5_fits_1 4 rfl rfl)
abbrev cX5_owner : ByteArray := prog_12_method_12_code
def yX5_owner : MethodName := ⟨RX5, "owner", "()V"⟩
def dkwX5_owner_4 : List UInt8 := [180, 0, 122, 43, 182, 0, 138, 87, 177]
abbrev dktX5_owner_4 : List UInt8 := dkwX5_owner_4 ++ []
def dkwX5_owner_3 : List UInt8 := [182, 0, 95, 42, 42, 180, 0, 53, 7, 160, 0, 7, 4, 167, 0, 4, 3, 182, 0, 95, 42, 180, 0, 18]
abbrev dktX5_owner_3 : List UInt8 := dkwX5_owner_3 ++ dktX5_owner_4
def dkwX5_owner_2 : List UInt8 := [160, 0, 21, 42, 180, 0, 18, 180, 0, 122, 43, 182, 0, 135, 154, 0, 7, 4, 167, 0, 4, 3]
abbrev dktX5_owner_2 : List UInt8 := dkwX5_owner_2 ++ dktX5_owner_3
def dkwX5_owner_1 : List UInt8 := [162, 0, 7, 4, 167, 0, 4, 3, 182, 0, 95, 42, 180, 0, 24, 76, 42, 42, 180, 0, 53, 5]
abbrev dktX5_owner_1 : List UInt8 := dkwX5_owner_1 ++ dktX5_owner_2
def dkwX5_owner_0 : List UInt8 := [42, 42, 18, 129, 182, 0, 131, 153, 0, 22, 42, 180, 0, 18, 180, 0, 122, 182, 0, 107, 16, 6]
abbrev dktX5_owner_0 : List UInt8 := dkwX5_owner_0 ++ dktX5_owner_1
theorem dksX5_owner_0 : cX5_owner.data.toList.drop 0 = dktX5_owner_0 := by decide +kernel
theorem dksX5_owner_1 : cX5_owner.data.toList.drop 22 = dktX5_owner_1 := dk_seg dksX5_owner_0 22 rfl rfl
theorem dksX5_owner_2 : cX5_owner.data.toList.drop 44 = dktX5_owner_2 := dk_seg dksX5_owner_1 22 rfl rfl
theorem dksX5_owner_3 : cX5_owner.data.toList.drop 66 = dktX5_owner_3 := dk_seg dksX5_owner_2 22 rfl rfl
theorem dksX5_owner_4 : cX5_owner.data.toList.drop 90 = dktX5_owner_4 := dk_seg dksX5_owner_3 24 rfl rfl
theorem dX5_owner_0 : decode cX5_owner 0 = .ok (.aload_n 0, 1) := dk_42 (dk_at dksX5_owner_0 0 rfl rfl)
theorem dX5_owner_1 : decode cX5_owner 1 = .ok (.aload_n 0, 1) := dk_42 (dk_at dksX5_owner_0 1 rfl rfl)
theorem dX5_owner_2 : decode cX5_owner 2 = .ok (.ldc 129, 2) := dk_18 129 (dk_at dksX5_owner_0 2 rfl rfl)
theorem dX5_owner_4 : decode cX5_owner 4 = .ok (.invokevirtual 131, 3) := dk_182 0 131 (dk_at dksX5_owner_0 4 rfl rfl)
theorem dX5_owner_7 : decode cX5_owner 7 = .ok (.ifCond .eq 22, 3) := dk_153 0 22 (dk_at dksX5_owner_0 7 rfl rfl)
theorem dX5_owner_10 : decode cX5_owner 10 = .ok (.aload_n 0, 1) := dk_42 (dk_at dksX5_owner_0 10 rfl rfl)
theorem dX5_owner_11 : decode cX5_owner 11 = .ok (.getfield 18, 3) := dk_180 0 18 (dk_at dksX5_owner_0 11 rfl rfl)
theorem dX5_owner_14 : decode cX5_owner 14 = .ok (.getfield 122, 3) := dk_180 0 122 (dk_at dksX5_owner_0 14 rfl rfl)
theorem dX5_owner_17 : decode cX5_owner 17 = .ok (.invokevirtual 107, 3) := dk_182 0 107 (dk_at dksX5_owner_0 17 rfl rfl)
theorem dX5_owner_20 : decode cX5_owner 20 = .ok (.bipush 6, 2) := dk_16 6 (dk_at dksX5_owner_0 20 rfl rfl)
theorem dX5_owner_22 : decode cX5_owner 22 = .ok (.if_icmp .ge 7, 3) := dk_162 0 7 (dk_at dksX5_owner_1 0 rfl rfl)
theorem dX5_owner_25 : decode cX5_owner 25 = .ok (.iconst 1, 1) := dk_4 (dk_at dksX5_owner_1 3 rfl rfl)
theorem dX5_owner_26 : decode cX5_owner 26 = .ok (.goto 4, 3) := dk_167 0 4 (dk_at dksX5_owner_1 4 rfl rfl)
theorem dX5_owner_29 : decode cX5_owner 29 = .ok (.iconst 0, 1) := dk_3 (dk_at dksX5_owner_1 7 rfl rfl)
theorem dX5_owner_30 : decode cX5_owner 30 = .ok (.invokevirtual 95, 3) := dk_182 0 95 (dk_at dksX5_owner_1 8 rfl rfl)
theorem dX5_owner_33 : decode cX5_owner 33 = .ok (.aload_n 0, 1) := dk_42 (dk_at dksX5_owner_1 11 rfl rfl)
theorem dX5_owner_34 : decode cX5_owner 34 = .ok (.getfield 24, 3) := dk_180 0 24 (dk_at dksX5_owner_1 12 rfl rfl)
theorem dX5_owner_37 : decode cX5_owner 37 = .ok (.astore_n 1, 1) := dk_76 (dk_at dksX5_owner_1 15 rfl rfl)
theorem dX5_owner_38 : decode cX5_owner 38 = .ok (.aload_n 0, 1) := dk_42 (dk_at dksX5_owner_1 16 rfl rfl)
theorem dX5_owner_39 : decode cX5_owner 39 = .ok (.aload_n 0, 1) := dk_42 (dk_at dksX5_owner_1 17 rfl rfl)
theorem dX5_owner_40 : decode cX5_owner 40 = .ok (.getfield 53, 3) := dk_180 0 53 (dk_at dksX5_owner_1 18 rfl rfl)
theorem dX5_owner_43 : decode cX5_owner 43 = .ok (.iconst 2, 1) := dk_5 (dk_at dksX5_owner_1 21 rfl rfl)
theorem dX5_owner_44 : decode cX5_owner 44 = .ok (.if_icmp .ne 21, 3) := dk_160 0 21 (dk_at dksX5_owner_2 0 rfl rfl)
theorem dX5_owner_47 : decode cX5_owner 47 = .ok (.aload_n 0, 1) := dk_42 (dk_at dksX5_owner_2 3 rfl rfl)
theorem dX5_owner_48 : decode cX5_owner 48 = .ok (.getfield 18, 3) := dk_180 0 18 (dk_at dksX5_owner_2 4 rfl rfl)
theorem dX5_owner_51 : decode cX5_owner 51 = .ok (.getfield 122, 3) := dk_180 0 122 (dk_at dksX5_owner_2 7 rfl rfl)
theorem dX5_owner_54 : decode cX5_owner 54 = .ok (.aload_n 1, 1) := dk_43 (dk_at dksX5_owner_2 10 rfl rfl)
theorem dX5_owner_55 : decode cX5_owner 55 = .ok (.invokevirtual 135, 3) := dk_182 0 135 (dk_at dksX5_owner_2 11 rfl rfl)
theorem dX5_owner_58 : decode cX5_owner 58 = .ok (.ifCond .ne 7, 3) := dk_154 0 7 (dk_at dksX5_owner_2 14 rfl rfl)
theorem dX5_owner_61 : decode cX5_owner 61 = .ok (.iconst 1, 1) := dk_4 (dk_at dksX5_owner_2 17 rfl rfl)
theorem dX5_owner_62 : decode cX5_owner 62 = .ok (.goto 4, 3) := dk_167 0 4 (dk_at dksX5_owner_2 18 rfl rfl)
theorem dX5_owner_65 : decode cX5_owner 65 = .ok (.iconst 0, 1) := dk_3 (dk_at dksX5_owner_2 21 rfl rfl)
theorem dX5_owner_66 : decode cX5_owner 66 = .ok (.invokevirtual 95, 3) := dk_182 0 95 (dk_at dksX5_owner_3 0 rfl rfl)
theorem dX5_owner_69 : decode cX5_owner 69 = .ok (.aload_n 0, 1) := dk_42 (dk_at dksX5_owner_3 3 rfl rfl)
theorem dX5_owner_70 : decode cX5_owner 70 = .ok (.aload_n 0, 1) := dk_42 (dk_at dksX5_owner_3 4 rfl rfl)
theorem dX5_owner_71 : decode cX5_owner 71 = .ok (.getfield 53, 3) := dk_180 0 53 (dk_at dksX5_owner_3 5 rfl rfl)
theorem dX5_owner_74 : decode cX5_owner 74 = .ok (.iconst 4, 1) := dk_7 (dk_at dksX5_owner_3 8 rfl rfl)
theorem dX5_owner_75 : decode cX5_owner 75 = .ok (.if_icmp .ne 7, 3) := dk_160 0 7 (dk_at dksX5_owner_3 9 rfl rfl)
theorem dX5_owner_78 : decode cX5_owner 78 = .ok (.iconst 1, 1) := dk_4 (dk_at dksX5_owner_3 12 rfl rfl)
theorem dX5_owner_79 : decode cX5_owner 79 = .ok (.goto 4, 3) := dk_167 0 4 (dk_at dksX5_owner_3 13 rfl rfl)
theorem dX5_owner_82 : decode cX5_owner 82 = .ok (.iconst 0, 1) := dk_3 (dk_at dksX5_owner_3 16 rfl rfl)
theorem dX5_owner_83 : decode cX5_owner 83 = .ok (.invokevirtual 95, 3) := dk_182 0 95 (dk_at dksX5_owner_3 17 rfl rfl)
theorem dX5_owner_86 : decode cX5_owner 86 = .ok (.aload_n 0, 1) := dk_42 (dk_at dksX5_owner_3 20 rfl rfl)
theorem dX5_owner_87 : decode cX5_owner 87 = .ok (.getfield 18, 3) := dk_180 0 18 (dk_at dksX5_owner_3 21 rfl rfl)
theorem dX5_owner_90 : decode cX5_owner 90 = .ok (.getfield 122, 3) := dk_180 0 122 (dk_at dksX5_owner_4 0 rfl rfl)
theorem dX5_owner_93 : decode cX5_owner 93 = .ok (.aload_n 1, 1) := dk_43 (dk_at dksX5_owner_4 3 rfl rfl)
theorem dX5_owner_94 : decode cX5_owner 94 = .ok (.invokevirtual 138, 3) := dk_182 0 138 (dk_at dksX5_owner_4 4 rfl rfl)
theorem dX5_owner_97 : decode cX5_owner 97 = .ok (.pop, 1) := dk_87 (dk_at dksX5_owner_4 7 rfl rfl)
theorem dX5_owner_98 : decode cX5_owner 98 = .ok (.return_, 1) := dk_177 (dk_at dksX5_owner_4 8 rfl rfl)
abbrev cX5_split : ByteArray := prog_12_method_13_code
def yX5_split : MethodName := ⟨RX5, "split", "()V"⟩
def dkwX5_split_4 : List UInt8 := [42, 180, 0, 18, 27, 28, 29, 182, 0, 155, 54, 4, 177]
abbrev dktX5_split_4 : List UInt8 := dkwX5_split_4 ++ []
def dkwX5_split_3 : List UInt8 := [184, 0, 151, 182, 0, 99, 62, 42, 42, 180, 0, 53, 7, 160, 0, 7, 4, 167, 0, 4, 3, 182, 0, 95]
abbrev dktX5_split_3 : List UInt8 := dkwX5_split_3 ++ dktX5_split_4
def dkwX5_split_2 : List UInt8 := [4, 167, 0, 4, 3, 182, 0, 95, 42, 42, 180, 0, 18, 27, 182, 0, 112, 28, 42, 180, 0, 81]
abbrev dktX5_split_2 : List UInt8 := dkwX5_split_2 ++ dktX5_split_3
def dkwX5_split_1 : List UInt8 := [153, 0, 7, 4, 167, 0, 4, 3, 61, 42, 28, 4, 159, 0, 12, 42, 18, 149, 182, 0, 131, 153, 0, 7]
abbrev dktX5_split_1 : List UInt8 := dkwX5_split_1 ++ dktX5_split_2
def dkwX5_split_0 : List UInt8 := [42, 42, 180, 0, 18, 182, 0, 141, 182, 0, 95, 42, 182, 0, 144, 60, 42, 18, 147, 182, 0, 131]
abbrev dktX5_split_0 : List UInt8 := dkwX5_split_0 ++ dktX5_split_1
theorem dksX5_split_0 : cX5_split.data.toList.drop 0 = dktX5_split_0 := by decide +kernel
theorem dksX5_split_1 : cX5_split.data.toList.drop 22 = dktX5_split_1 := dk_seg dksX5_split_0 22 rfl rfl
theorem dksX5_split_2 : cX5_split.data.toList.drop 46 = dktX5_split_2 := dk_seg dksX5_split_1 24 rfl rfl
theorem dksX5_split_3 : cX5_split.data.toList.drop 68 = dktX5_split_3 := dk_seg dksX5_split_2 22 rfl rfl
theorem dksX5_split_4 : cX5_split.data.toList.drop 92 = dktX5_split_4 := dk_seg dksX5_split_3 24 rfl rfl
theorem dX5_split_0 : decode cX5_split 0 = .ok (.aload_n 0, 1) := dk_42 (dk_at dksX5_split_0 0 rfl rfl)
theorem dX5_split_1 : decode cX5_split 1 = .ok (.aload_n 0, 1) := dk_42 (dk_at dksX5_split_0 1 rfl rfl)
theorem dX5_split_2 : decode cX5_split 2 = .ok (.getfield 18, 3) := dk_180 0 18 (dk_at dksX5_split_0 2 rfl rfl)
theorem dX5_split_5 : decode cX5_split 5 = .ok (.invokevirtual 141, 3) := dk_182 0 141 (dk_at dksX5_split_0 5 rfl rfl)
theorem dX5_split_8 : decode cX5_split 8 = .ok (.invokevirtual 95, 3) := dk_182 0 95 (dk_at dksX5_split_0 8 rfl rfl)
theorem dX5_split_11 : decode cX5_split 11 = .ok (.aload_n 0, 1) := dk_42 (dk_at dksX5_split_0 11 rfl rfl)
theorem dX5_split_12 : decode cX5_split 12 = .ok (.invokevirtual 144, 3) := dk_182 0 144 (dk_at dksX5_split_0 12 rfl rfl)
theorem dX5_split_15 : decode cX5_split 15 = .ok (.istore_n 1, 1) := dk_60 (dk_at dksX5_split_0 15 rfl rfl)
theorem dX5_split_16 : decode cX5_split 16 = .ok (.aload_n 0, 1) := dk_42 (dk_at dksX5_split_0 16 rfl rfl)
theorem dX5_split_17 : decode cX5_split 17 = .ok (.ldc 147, 2) := dk_18 147 (dk_at dksX5_split_0 17 rfl rfl)
theorem dX5_split_19 : decode cX5_split 19 = .ok (.invokevirtual 131, 3) := dk_182 0 131 (dk_at dksX5_split_0 19 rfl rfl)
theorem dX5_split_22 : decode cX5_split 22 = .ok (.ifCond .eq 7, 3) := dk_153 0 7 (dk_at dksX5_split_1 0 rfl rfl)
theorem dX5_split_25 : decode cX5_split 25 = .ok (.iconst 1, 1) := dk_4 (dk_at dksX5_split_1 3 rfl rfl)
theorem dX5_split_26 : decode cX5_split 26 = .ok (.goto 4, 3) := dk_167 0 4 (dk_at dksX5_split_1 4 rfl rfl)
theorem dX5_split_29 : decode cX5_split 29 = .ok (.iconst 0, 1) := dk_3 (dk_at dksX5_split_1 7 rfl rfl)
theorem dX5_split_30 : decode cX5_split 30 = .ok (.istore_n 2, 1) := dk_61 (dk_at dksX5_split_1 8 rfl rfl)
theorem dX5_split_31 : decode cX5_split 31 = .ok (.aload_n 0, 1) := dk_42 (dk_at dksX5_split_1 9 rfl rfl)
theorem dX5_split_32 : decode cX5_split 32 = .ok (.iload_n 2, 1) := dk_28 (dk_at dksX5_split_1 10 rfl rfl)
theorem dX5_split_33 : decode cX5_split 33 = .ok (.iconst 1, 1) := dk_4 (dk_at dksX5_split_1 11 rfl rfl)
theorem dX5_split_34 : decode cX5_split 34 = .ok (.if_icmp .eq 12, 3) := dk_159 0 12 (dk_at dksX5_split_1 12 rfl rfl)
theorem dX5_split_37 : decode cX5_split 37 = .ok (.aload_n 0, 1) := dk_42 (dk_at dksX5_split_1 15 rfl rfl)
theorem dX5_split_38 : decode cX5_split 38 = .ok (.ldc 149, 2) := dk_18 149 (dk_at dksX5_split_1 16 rfl rfl)
theorem dX5_split_40 : decode cX5_split 40 = .ok (.invokevirtual 131, 3) := dk_182 0 131 (dk_at dksX5_split_1 18 rfl rfl)
theorem dX5_split_43 : decode cX5_split 43 = .ok (.ifCond .eq 7, 3) := dk_153 0 7 (dk_at dksX5_split_1 21 rfl rfl)
theorem dX5_split_46 : decode cX5_split 46 = .ok (.iconst 1, 1) := dk_4 (dk_at dksX5_split_2 0 rfl rfl)
theorem dX5_split_47 : decode cX5_split 47 = .ok (.goto 4, 3) := dk_167 0 4 (dk_at dksX5_split_2 1 rfl rfl)
theorem dX5_split_50 : decode cX5_split 50 = .ok (.iconst 0, 1) := dk_3 (dk_at dksX5_split_2 4 rfl rfl)
theorem dX5_split_51 : decode cX5_split 51 = .ok (.invokevirtual 95, 3) := dk_182 0 95 (dk_at dksX5_split_2 5 rfl rfl)
theorem dX5_split_54 : decode cX5_split 54 = .ok (.aload_n 0, 1) := dk_42 (dk_at dksX5_split_2 8 rfl rfl)
theorem dX5_split_55 : decode cX5_split 55 = .ok (.aload_n 0, 1) := dk_42 (dk_at dksX5_split_2 9 rfl rfl)
theorem dX5_split_56 : decode cX5_split 56 = .ok (.getfield 18, 3) := dk_180 0 18 (dk_at dksX5_split_2 10 rfl rfl)
theorem dX5_split_59 : decode cX5_split 59 = .ok (.iload_n 1, 1) := dk_27 (dk_at dksX5_split_2 13 rfl rfl)
theorem dX5_split_60 : decode cX5_split 60 = .ok (.invokevirtual 112, 3) := dk_182 0 112 (dk_at dksX5_split_2 14 rfl rfl)
theorem dX5_split_63 : decode cX5_split 63 = .ok (.iload_n 2, 1) := dk_28 (dk_at dksX5_split_2 17 rfl rfl)
theorem dX5_split_64 : decode cX5_split 64 = .ok (.aload_n 0, 1) := dk_42 (dk_at dksX5_split_2 18 rfl rfl)
theorem dX5_split_65 : decode cX5_split 65 = .ok (.getfield 81, 3) := dk_180 0 81 (dk_at dksX5_split_2 19 rfl rfl)
theorem dX5_split_68 : decode cX5_split 68 = .ok (.invokestatic 151, 3) := dk_184 0 151 (dk_at dksX5_split_3 0 rfl rfl)
theorem dX5_split_71 : decode cX5_split 71 = .ok (.invokevirtual 99, 3) := dk_182 0 99 (dk_at dksX5_split_3 3 rfl rfl)
theorem dX5_split_74 : decode cX5_split 74 = .ok (.istore_n 3, 1) := dk_62 (dk_at dksX5_split_3 6 rfl rfl)
theorem dX5_split_75 : decode cX5_split 75 = .ok (.aload_n 0, 1) := dk_42 (dk_at dksX5_split_3 7 rfl rfl)
theorem dX5_split_76 : decode cX5_split 76 = .ok (.aload_n 0, 1) := dk_42 (dk_at dksX5_split_3 8 rfl rfl)
theorem dX5_split_77 : decode cX5_split 77 = .ok (.getfield 53, 3) := dk_180 0 53 (dk_at dksX5_split_3 9 rfl rfl)
theorem dX5_split_80 : decode cX5_split 80 = .ok (.iconst 4, 1) := dk_7 (dk_at dksX5_split_3 12 rfl rfl)
theorem dX5_split_81 : decode cX5_split 81 = .ok (.if_icmp .ne 7, 3) := dk_160 0 7 (dk_at dksX5_split_3 13 rfl rfl)
theorem dX5_split_84 : decode cX5_split 84 = .ok (.iconst 1, 1) := dk_4 (dk_at dksX5_split_3 16 rfl rfl)
theorem dX5_split_85 : decode cX5_split 85 = .ok (.goto 4, 3) := dk_167 0 4 (dk_at dksX5_split_3 17 rfl rfl)
theorem dX5_split_88 : decode cX5_split 88 = .ok (.iconst 0, 1) := dk_3 (dk_at dksX5_split_3 20 rfl rfl)
theorem dX5_split_89 : decode cX5_split 89 = .ok (.invokevirtual 95, 3) := dk_182 0 95 (dk_at dksX5_split_3 21 rfl rfl)
theorem dX5_split_92 : decode cX5_split 92 = .ok (.aload_n 0, 1) := dk_42 (dk_at dksX5_split_4 0 rfl rfl)
theorem dX5_split_93 : decode cX5_split 93 = .ok (.getfield 18, 3) := dk_180 0 18 (dk_at dksX5_split_4 1 rfl rfl)
theorem dX5_split_96 : decode cX5_split 96 = .ok (.iload_n 1, 1) := dk_27 (dk_at dksX5_split_4 4 rfl rfl)
theorem dX5_split_97 : decode cX5_split 97 = .ok (.iload_n 2, 1) := dk_28 (dk_at dksX5_split_4 5 rfl rfl)
theorem dX5_split_98 : decode cX5_split 98 = .ok (.iload_n 3, 1) := dk_29 (dk_at dksX5_split_4 6 rfl rfl)
theorem dX5_split_99 : decode cX5_split 99 = .ok (.invokevirtual 155, 3) := dk_182 0 155 (dk_at dksX5_split_4 7 rfl rfl)
theorem dX5_split_102 : decode cX5_split 102 = .ok (.istore 4, 2) := dk_54 4 (dk_at dksX5_split_4 10 rfl rfl)
theorem dX5_split_104 : decode cX5_split 104 = .ok (.return_, 1) := dk_177 (dk_at dksX5_split_4 12 rfl rfl)
abbrev cX5_live : ByteArray := prog_12_method_10_code
def yX5_live : MethodName := ⟨RX5, "live", "()I"⟩
def dkwX5_live_1 : List UInt8 := [180, 0, 81, 182, 0, 112, 182, 0, 116, 153, 0, 7, 4, 167, 0, 4, 3, 182, 0, 99, 172]
abbrev dktX5_live_1 : List UInt8 := dkwX5_live_1 ++ []
def dkwX5_live_0 : List UInt8 := [42, 42, 180, 0, 81, 42, 180, 0, 18, 180, 0, 103, 182, 0, 107, 162, 0, 24, 42, 180, 0, 18, 42]
abbrev dktX5_live_0 : List UInt8 := dkwX5_live_0 ++ dktX5_live_1
theorem dksX5_live_0 : cX5_live.data.toList.drop 0 = dktX5_live_0 := by decide +kernel
theorem dksX5_live_1 : cX5_live.data.toList.drop 23 = dktX5_live_1 := dk_seg dksX5_live_0 23 rfl rfl
theorem dX5_live_0 : decode cX5_live 0 = .ok (.aload_n 0, 1) := dk_42 (dk_at dksX5_live_0 0 rfl rfl)
theorem dX5_live_1 : decode cX5_live 1 = .ok (.aload_n 0, 1) := dk_42 (dk_at dksX5_live_0 1 rfl rfl)
theorem dX5_live_2 : decode cX5_live 2 = .ok (.getfield 81, 3) := dk_180 0 81 (dk_at dksX5_live_0 2 rfl rfl)
theorem dX5_live_5 : decode cX5_live 5 = .ok (.aload_n 0, 1) := dk_42 (dk_at dksX5_live_0 5 rfl rfl)
theorem dX5_live_6 : decode cX5_live 6 = .ok (.getfield 18, 3) := dk_180 0 18 (dk_at dksX5_live_0 6 rfl rfl)
theorem dX5_live_9 : decode cX5_live 9 = .ok (.getfield 103, 3) := dk_180 0 103 (dk_at dksX5_live_0 9 rfl rfl)
theorem dX5_live_12 : decode cX5_live 12 = .ok (.invokevirtual 107, 3) := dk_182 0 107 (dk_at dksX5_live_0 12 rfl rfl)
theorem dX5_live_15 : decode cX5_live 15 = .ok (.if_icmp .ge 24, 3) := dk_162 0 24 (dk_at dksX5_live_0 15 rfl rfl)
theorem dX5_live_18 : decode cX5_live 18 = .ok (.aload_n 0, 1) := dk_42 (dk_at dksX5_live_0 18 rfl rfl)
theorem dX5_live_19 : decode cX5_live 19 = .ok (.getfield 18, 3) := dk_180 0 18 (dk_at dksX5_live_0 19 rfl rfl)
theorem dX5_live_22 : decode cX5_live 22 = .ok (.aload_n 0, 1) := dk_42 (dk_at dksX5_live_0 22 rfl rfl)
theorem dX5_live_23 : decode cX5_live 23 = .ok (.getfield 81, 3) := dk_180 0 81 (dk_at dksX5_live_1 0 rfl rfl)
theorem dX5_live_26 : decode cX5_live 26 = .ok (.invokevirtual 112, 3) := dk_182 0 112 (dk_at dksX5_live_1 3 rfl rfl)
theorem dX5_live_29 : decode cX5_live 29 = .ok (.invokevirtual 116, 3) := dk_182 0 116 (dk_at dksX5_live_1 6 rfl rfl)
theorem dX5_live_32 : decode cX5_live 32 = .ok (.ifCond .eq 7, 3) := dk_153 0 7 (dk_at dksX5_live_1 9 rfl rfl)
theorem dX5_live_35 : decode cX5_live 35 = .ok (.iconst 1, 1) := dk_4 (dk_at dksX5_live_1 12 rfl rfl)
theorem dX5_live_36 : decode cX5_live 36 = .ok (.goto 4, 3) := dk_167 0 4 (dk_at dksX5_live_1 13 rfl rfl)
theorem dX5_live_39 : decode cX5_live 39 = .ok (.iconst 0, 1) := dk_3 (dk_at dksX5_live_1 16 rfl rfl)
theorem dX5_live_40 : decode cX5_live 40 = .ok (.invokevirtual 99, 3) := dk_182 0 99 (dk_at dksX5_live_1 17 rfl rfl)
theorem dX5_live_43 : decode cX5_live 43 = .ok (.ireturn, 1) := dk_172 (dk_at dksX5_live_1 20 rfl rfl)
abbrev cX5_give : ByteArray := prog_12_method_14_code
def yX5_give : MethodName := ⟨RX5, "give", "()V"⟩
def dkwX5_give_2 : List UInt8 := [160, 0, 7, 4, 167, 0, 4, 3, 182, 0, 95, 42, 180, 0, 18, 27, 28, 29, 21, 4, 182, 0, 177, 177]
abbrev dktX5_give_2 : List UInt8 := dkwX5_give_2 ++ []
def dkwX5_give_1 : List UInt8 := [42, 180, 0, 18, 27, 182, 0, 163, 180, 0, 167, 28, 46, 182, 0, 173, 54, 4, 42, 42, 180, 0, 53, 7]
abbrev dktX5_give_1 : List UInt8 := dkwX5_give_1 ++ dktX5_give_2
def dkwX5_give_0 : List UInt8 := [42, 182, 0, 28, 42, 182, 0, 144, 60, 42, 16, 254, 182, 0, 159, 61, 42, 28, 182, 0, 159, 62, 42, 4]
abbrev dktX5_give_0 : List UInt8 := dkwX5_give_0 ++ dktX5_give_1
theorem dksX5_give_0 : cX5_give.data.toList.drop 0 = dktX5_give_0 := by decide +kernel
theorem dksX5_give_1 : cX5_give.data.toList.drop 24 = dktX5_give_1 := dk_seg dksX5_give_0 24 rfl rfl
theorem dksX5_give_2 : cX5_give.data.toList.drop 48 = dktX5_give_2 := dk_seg dksX5_give_1 24 rfl rfl
theorem dX5_give_0 : decode cX5_give 0 = .ok (.aload_n 0, 1) := dk_42 (dk_at dksX5_give_0 0 rfl rfl)
theorem dX5_give_1 : decode cX5_give 1 = .ok (.invokevirtual 28, 3) := dk_182 0 28 (dk_at dksX5_give_0 1 rfl rfl)
theorem dX5_give_4 : decode cX5_give 4 = .ok (.aload_n 0, 1) := dk_42 (dk_at dksX5_give_0 4 rfl rfl)
theorem dX5_give_5 : decode cX5_give 5 = .ok (.invokevirtual 144, 3) := dk_182 0 144 (dk_at dksX5_give_0 5 rfl rfl)
theorem dX5_give_8 : decode cX5_give 8 = .ok (.istore_n 1, 1) := dk_60 (dk_at dksX5_give_0 8 rfl rfl)
theorem dX5_give_9 : decode cX5_give 9 = .ok (.aload_n 0, 1) := dk_42 (dk_at dksX5_give_0 9 rfl rfl)
theorem dX5_give_10 : decode cX5_give 10 = .ok (.bipush (-2), 2) := dk_16 254 (dk_at dksX5_give_0 10 rfl rfl)
theorem dX5_give_12 : decode cX5_give 12 = .ok (.invokevirtual 159, 3) := dk_182 0 159 (dk_at dksX5_give_0 12 rfl rfl)
theorem dX5_give_15 : decode cX5_give 15 = .ok (.istore_n 2, 1) := dk_61 (dk_at dksX5_give_0 15 rfl rfl)
theorem dX5_give_16 : decode cX5_give 16 = .ok (.aload_n 0, 1) := dk_42 (dk_at dksX5_give_0 16 rfl rfl)
theorem dX5_give_17 : decode cX5_give 17 = .ok (.iload_n 2, 1) := dk_28 (dk_at dksX5_give_0 17 rfl rfl)
theorem dX5_give_18 : decode cX5_give 18 = .ok (.invokevirtual 159, 3) := dk_182 0 159 (dk_at dksX5_give_0 18 rfl rfl)
theorem dX5_give_21 : decode cX5_give 21 = .ok (.istore_n 3, 1) := dk_62 (dk_at dksX5_give_0 21 rfl rfl)
theorem dX5_give_22 : decode cX5_give 22 = .ok (.aload_n 0, 1) := dk_42 (dk_at dksX5_give_0 22 rfl rfl)
theorem dX5_give_23 : decode cX5_give 23 = .ok (.iconst 1, 1) := dk_4 (dk_at dksX5_give_0 23 rfl rfl)
theorem dX5_give_24 : decode cX5_give 24 = .ok (.aload_n 0, 1) := dk_42 (dk_at dksX5_give_1 0 rfl rfl)
theorem dX5_give_25 : decode cX5_give 25 = .ok (.getfield 18, 3) := dk_180 0 18 (dk_at dksX5_give_1 1 rfl rfl)
theorem dX5_give_28 : decode cX5_give 28 = .ok (.iload_n 1, 1) := dk_27 (dk_at dksX5_give_1 4 rfl rfl)
theorem dX5_give_29 : decode cX5_give 29 = .ok (.invokevirtual 163, 3) := dk_182 0 163 (dk_at dksX5_give_1 5 rfl rfl)
theorem dX5_give_32 : decode cX5_give 32 = .ok (.getfield 167, 3) := dk_180 0 167 (dk_at dksX5_give_1 8 rfl rfl)
theorem dX5_give_35 : decode cX5_give 35 = .ok (.iload_n 2, 1) := dk_28 (dk_at dksX5_give_1 11 rfl rfl)
theorem dX5_give_36 : decode cX5_give 36 = .ok (.iaload, 1) := dk_46 (dk_at dksX5_give_1 12 rfl rfl)
theorem dX5_give_37 : decode cX5_give 37 = .ok (.invokevirtual 173, 3) := dk_182 0 173 (dk_at dksX5_give_1 13 rfl rfl)
theorem dX5_give_40 : decode cX5_give 40 = .ok (.istore 4, 2) := dk_54 4 (dk_at dksX5_give_1 16 rfl rfl)
theorem dX5_give_42 : decode cX5_give 42 = .ok (.aload_n 0, 1) := dk_42 (dk_at dksX5_give_1 18 rfl rfl)
theorem dX5_give_43 : decode cX5_give 43 = .ok (.aload_n 0, 1) := dk_42 (dk_at dksX5_give_1 19 rfl rfl)
theorem dX5_give_44 : decode cX5_give 44 = .ok (.getfield 53, 3) := dk_180 0 53 (dk_at dksX5_give_1 20 rfl rfl)
theorem dX5_give_47 : decode cX5_give 47 = .ok (.iconst 4, 1) := dk_7 (dk_at dksX5_give_1 23 rfl rfl)
theorem dX5_give_48 : decode cX5_give 48 = .ok (.if_icmp .ne 7, 3) := dk_160 0 7 (dk_at dksX5_give_2 0 rfl rfl)
theorem dX5_give_51 : decode cX5_give 51 = .ok (.iconst 1, 1) := dk_4 (dk_at dksX5_give_2 3 rfl rfl)
theorem dX5_give_52 : decode cX5_give 52 = .ok (.goto 4, 3) := dk_167 0 4 (dk_at dksX5_give_2 4 rfl rfl)
theorem dX5_give_55 : decode cX5_give 55 = .ok (.iconst 0, 1) := dk_3 (dk_at dksX5_give_2 7 rfl rfl)
theorem dX5_give_56 : decode cX5_give 56 = .ok (.invokevirtual 95, 3) := dk_182 0 95 (dk_at dksX5_give_2 8 rfl rfl)
theorem dX5_give_59 : decode cX5_give 59 = .ok (.aload_n 0, 1) := dk_42 (dk_at dksX5_give_2 11 rfl rfl)
theorem dX5_give_60 : decode cX5_give 60 = .ok (.getfield 18, 3) := dk_180 0 18 (dk_at dksX5_give_2 12 rfl rfl)
theorem dX5_give_63 : decode cX5_give 63 = .ok (.iload_n 1, 1) := dk_27 (dk_at dksX5_give_2 15 rfl rfl)
theorem dX5_give_64 : decode cX5_give 64 = .ok (.iload_n 2, 1) := dk_28 (dk_at dksX5_give_2 16 rfl rfl)
theorem dX5_give_65 : decode cX5_give 65 = .ok (.iload_n 3, 1) := dk_29 (dk_at dksX5_give_2 17 rfl rfl)
theorem dX5_give_66 : decode cX5_give 66 = .ok (.iload 4, 2) := dk_21 4 (dk_at dksX5_give_2 18 rfl rfl)
theorem dX5_give_68 : decode cX5_give 68 = .ok (.invokevirtual 177, 3) := dk_182 0 177 (dk_at dksX5_give_2 20 rfl rfl)
theorem dX5_give_71 : decode cX5_give 71 = .ok (.return_, 1) := dk_177 (dk_at dksX5_give_2 23 rfl rfl)
abbrev cX5_known : ByteArray := prog_12_method_11_code
def yX5_known : MethodName := ⟨RX5, "known", "(I)I"⟩
def dkwX5_known_2 : List UInt8 := [28, 172]
abbrev dktX5_known_2 : List UInt8 := dkwX5_known_2 ++ []
def dkwX5_known_1 : List UInt8 := [167, 0, 5, 16, 254, 61, 42, 28, 155, 0, 12, 28, 27, 159, 0, 7, 4, 167, 0, 4, 3, 182, 0, 95]
abbrev dktX5_known_1 : List UInt8 := dkwX5_known_1 ++ dktX5_known_2
def dkwX5_known_0 : List UInt8 := [42, 180, 0, 53, 5, 160, 0, 20, 42, 180, 0, 18, 180, 0, 122, 42, 180, 0, 24, 182, 0, 125]
abbrev dktX5_known_0 : List UInt8 := dkwX5_known_0 ++ dktX5_known_1
theorem dksX5_known_0 : cX5_known.data.toList.drop 0 = dktX5_known_0 := by decide +kernel
theorem dksX5_known_1 : cX5_known.data.toList.drop 22 = dktX5_known_1 := dk_seg dksX5_known_0 22 rfl rfl
theorem dksX5_known_2 : cX5_known.data.toList.drop 46 = dktX5_known_2 := dk_seg dksX5_known_1 24 rfl rfl
theorem dX5_known_0 : decode cX5_known 0 = .ok (.aload_n 0, 1) := dk_42 (dk_at dksX5_known_0 0 rfl rfl)
theorem dX5_known_1 : decode cX5_known 1 = .ok (.getfield 53, 3) := dk_180 0 53 (dk_at dksX5_known_0 1 rfl rfl)
theorem dX5_known_4 : decode cX5_known 4 = .ok (.iconst 2, 1) := dk_5 (dk_at dksX5_known_0 4 rfl rfl)
theorem dX5_known_5 : decode cX5_known 5 = .ok (.if_icmp .ne 20, 3) := dk_160 0 20 (dk_at dksX5_known_0 5 rfl rfl)
theorem dX5_known_8 : decode cX5_known 8 = .ok (.aload_n 0, 1) := dk_42 (dk_at dksX5_known_0 8 rfl rfl)
theorem dX5_known_9 : decode cX5_known 9 = .ok (.getfield 18, 3) := dk_180 0 18 (dk_at dksX5_known_0 9 rfl rfl)
theorem dX5_known_12 : decode cX5_known 12 = .ok (.getfield 122, 3) := dk_180 0 122 (dk_at dksX5_known_0 12 rfl rfl)
theorem dX5_known_15 : decode cX5_known 15 = .ok (.aload_n 0, 1) := dk_42 (dk_at dksX5_known_0 15 rfl rfl)
theorem dX5_known_16 : decode cX5_known 16 = .ok (.getfield 24, 3) := dk_180 0 24 (dk_at dksX5_known_0 16 rfl rfl)
theorem dX5_known_19 : decode cX5_known 19 = .ok (.invokevirtual 125, 3) := dk_182 0 125 (dk_at dksX5_known_0 19 rfl rfl)
theorem dX5_known_22 : decode cX5_known 22 = .ok (.goto 5, 3) := dk_167 0 5 (dk_at dksX5_known_1 0 rfl rfl)
theorem dX5_known_25 : decode cX5_known 25 = .ok (.bipush (-2), 2) := dk_16 254 (dk_at dksX5_known_1 3 rfl rfl)
theorem dX5_known_27 : decode cX5_known 27 = .ok (.istore_n 2, 1) := dk_61 (dk_at dksX5_known_1 5 rfl rfl)
theorem dX5_known_28 : decode cX5_known 28 = .ok (.aload_n 0, 1) := dk_42 (dk_at dksX5_known_1 6 rfl rfl)
theorem dX5_known_29 : decode cX5_known 29 = .ok (.iload_n 2, 1) := dk_28 (dk_at dksX5_known_1 7 rfl rfl)
theorem dX5_known_30 : decode cX5_known 30 = .ok (.ifCond .lt 12, 3) := dk_155 0 12 (dk_at dksX5_known_1 8 rfl rfl)
theorem dX5_known_33 : decode cX5_known 33 = .ok (.iload_n 2, 1) := dk_28 (dk_at dksX5_known_1 11 rfl rfl)
theorem dX5_known_34 : decode cX5_known 34 = .ok (.iload_n 1, 1) := dk_27 (dk_at dksX5_known_1 12 rfl rfl)
theorem dX5_known_35 : decode cX5_known 35 = .ok (.if_icmp .eq 7, 3) := dk_159 0 7 (dk_at dksX5_known_1 13 rfl rfl)
theorem dX5_known_38 : decode cX5_known 38 = .ok (.iconst 1, 1) := dk_4 (dk_at dksX5_known_1 16 rfl rfl)
theorem dX5_known_39 : decode cX5_known 39 = .ok (.goto 4, 3) := dk_167 0 4 (dk_at dksX5_known_1 17 rfl rfl)
theorem dX5_known_42 : decode cX5_known 42 = .ok (.iconst 0, 1) := dk_3 (dk_at dksX5_known_1 20 rfl rfl)
theorem dX5_known_43 : decode cX5_known 43 = .ok (.invokevirtual 95, 3) := dk_182 0 95 (dk_at dksX5_known_1 21 rfl rfl)
theorem dX5_known_46 : decode cX5_known 46 = .ok (.iload_n 2, 1) := dk_28 (dk_at dksX5_known_2 0 rfl rfl)
theorem dX5_known_47 : decode cX5_known 47 = .ok (.ireturn, 1) := dk_172 (dk_at dksX5_known_2 1 rfl rfl)
abbrev cX5_debt : ByteArray := prog_12_method_15_code
def yX5_debt : MethodName := ⟨RX5, "debt", "()V"⟩
def dkwX5_debt_3 : List UInt8 := [180, 0, 18, 180, 0, 181, 182, 0, 107, 3, 28, 29, 183, 0, 186, 27, 182, 0, 188, 177]
abbrev dktX5_debt_3 : List UInt8 := dkwX5_debt_3 ++ []
def dkwX5_debt_2 : List UInt8 := [180, 0, 53, 7, 160, 0, 7, 4, 167, 0, 4, 3, 182, 0, 95, 42, 180, 0, 18, 187, 0, 184, 89, 42]
abbrev dktX5_debt_2 : List UInt8 := dkwX5_debt_2 ++ dktX5_debt_3
def dkwX5_debt_1 : List UInt8 := [42, 182, 0, 144, 60, 42, 16, 254, 182, 0, 159, 61, 42, 4, 17, 39, 15, 182, 0, 173, 62, 42, 42]
abbrev dktX5_debt_1 : List UInt8 := dkwX5_debt_1 ++ dktX5_debt_2
def dkwX5_debt_0 : List UInt8 := [42, 42, 180, 0, 18, 180, 0, 181, 182, 0, 107, 16, 20, 162, 0, 7, 4, 167, 0, 4, 3, 182, 0, 95]
abbrev dktX5_debt_0 : List UInt8 := dkwX5_debt_0 ++ dktX5_debt_1
theorem dksX5_debt_0 : cX5_debt.data.toList.drop 0 = dktX5_debt_0 := by decide +kernel
theorem dksX5_debt_1 : cX5_debt.data.toList.drop 24 = dktX5_debt_1 := dk_seg dksX5_debt_0 24 rfl rfl
theorem dksX5_debt_2 : cX5_debt.data.toList.drop 47 = dktX5_debt_2 := dk_seg dksX5_debt_1 23 rfl rfl
theorem dksX5_debt_3 : cX5_debt.data.toList.drop 71 = dktX5_debt_3 := dk_seg dksX5_debt_2 24 rfl rfl
theorem dX5_debt_0 : decode cX5_debt 0 = .ok (.aload_n 0, 1) := dk_42 (dk_at dksX5_debt_0 0 rfl rfl)
theorem dX5_debt_1 : decode cX5_debt 1 = .ok (.aload_n 0, 1) := dk_42 (dk_at dksX5_debt_0 1 rfl rfl)
theorem dX5_debt_2 : decode cX5_debt 2 = .ok (.getfield 18, 3) := dk_180 0 18 (dk_at dksX5_debt_0 2 rfl rfl)
theorem dX5_debt_5 : decode cX5_debt 5 = .ok (.getfield 181, 3) := dk_180 0 181 (dk_at dksX5_debt_0 5 rfl rfl)
theorem dX5_debt_8 : decode cX5_debt 8 = .ok (.invokevirtual 107, 3) := dk_182 0 107 (dk_at dksX5_debt_0 8 rfl rfl)
theorem dX5_debt_11 : decode cX5_debt 11 = .ok (.bipush 20, 2) := dk_16 20 (dk_at dksX5_debt_0 11 rfl rfl)
theorem dX5_debt_13 : decode cX5_debt 13 = .ok (.if_icmp .ge 7, 3) := dk_162 0 7 (dk_at dksX5_debt_0 13 rfl rfl)
theorem dX5_debt_16 : decode cX5_debt 16 = .ok (.iconst 1, 1) := dk_4 (dk_at dksX5_debt_0 16 rfl rfl)
theorem dX5_debt_17 : decode cX5_debt 17 = .ok (.goto 4, 3) := dk_167 0 4 (dk_at dksX5_debt_0 17 rfl rfl)
theorem dX5_debt_20 : decode cX5_debt 20 = .ok (.iconst 0, 1) := dk_3 (dk_at dksX5_debt_0 20 rfl rfl)
theorem dX5_debt_21 : decode cX5_debt 21 = .ok (.invokevirtual 95, 3) := dk_182 0 95 (dk_at dksX5_debt_0 21 rfl rfl)
theorem dX5_debt_24 : decode cX5_debt 24 = .ok (.aload_n 0, 1) := dk_42 (dk_at dksX5_debt_1 0 rfl rfl)
theorem dX5_debt_25 : decode cX5_debt 25 = .ok (.invokevirtual 144, 3) := dk_182 0 144 (dk_at dksX5_debt_1 1 rfl rfl)
theorem dX5_debt_28 : decode cX5_debt 28 = .ok (.istore_n 1, 1) := dk_60 (dk_at dksX5_debt_1 4 rfl rfl)
theorem dX5_debt_29 : decode cX5_debt 29 = .ok (.aload_n 0, 1) := dk_42 (dk_at dksX5_debt_1 5 rfl rfl)
theorem dX5_debt_30 : decode cX5_debt 30 = .ok (.bipush (-2), 2) := dk_16 254 (dk_at dksX5_debt_1 6 rfl rfl)
theorem dX5_debt_32 : decode cX5_debt 32 = .ok (.invokevirtual 159, 3) := dk_182 0 159 (dk_at dksX5_debt_1 8 rfl rfl)
theorem dX5_debt_35 : decode cX5_debt 35 = .ok (.istore_n 2, 1) := dk_61 (dk_at dksX5_debt_1 11 rfl rfl)
theorem dX5_debt_36 : decode cX5_debt 36 = .ok (.aload_n 0, 1) := dk_42 (dk_at dksX5_debt_1 12 rfl rfl)
theorem dX5_debt_37 : decode cX5_debt 37 = .ok (.iconst 1, 1) := dk_4 (dk_at dksX5_debt_1 13 rfl rfl)
theorem dX5_debt_38 : decode cX5_debt 38 = .ok (.sipush 9999, 3) := dk_17 39 15 (dk_at dksX5_debt_1 14 rfl rfl)
theorem dX5_debt_41 : decode cX5_debt 41 = .ok (.invokevirtual 173, 3) := dk_182 0 173 (dk_at dksX5_debt_1 17 rfl rfl)
theorem dX5_debt_44 : decode cX5_debt 44 = .ok (.istore_n 3, 1) := dk_62 (dk_at dksX5_debt_1 20 rfl rfl)
theorem dX5_debt_45 : decode cX5_debt 45 = .ok (.aload_n 0, 1) := dk_42 (dk_at dksX5_debt_1 21 rfl rfl)
theorem dX5_debt_46 : decode cX5_debt 46 = .ok (.aload_n 0, 1) := dk_42 (dk_at dksX5_debt_1 22 rfl rfl)
theorem dX5_debt_47 : decode cX5_debt 47 = .ok (.getfield 53, 3) := dk_180 0 53 (dk_at dksX5_debt_2 0 rfl rfl)
theorem dX5_debt_50 : decode cX5_debt 50 = .ok (.iconst 4, 1) := dk_7 (dk_at dksX5_debt_2 3 rfl rfl)
theorem dX5_debt_51 : decode cX5_debt 51 = .ok (.if_icmp .ne 7, 3) := dk_160 0 7 (dk_at dksX5_debt_2 4 rfl rfl)
theorem dX5_debt_54 : decode cX5_debt 54 = .ok (.iconst 1, 1) := dk_4 (dk_at dksX5_debt_2 7 rfl rfl)
theorem dX5_debt_55 : decode cX5_debt 55 = .ok (.goto 4, 3) := dk_167 0 4 (dk_at dksX5_debt_2 8 rfl rfl)
theorem dX5_debt_58 : decode cX5_debt 58 = .ok (.iconst 0, 1) := dk_3 (dk_at dksX5_debt_2 11 rfl rfl)
theorem dX5_debt_59 : decode cX5_debt 59 = .ok (.invokevirtual 95, 3) := dk_182 0 95 (dk_at dksX5_debt_2 12 rfl rfl)
theorem dX5_debt_62 : decode cX5_debt 62 = .ok (.aload_n 0, 1) := dk_42 (dk_at dksX5_debt_2 15 rfl rfl)
theorem dX5_debt_63 : decode cX5_debt 63 = .ok (.getfield 18, 3) := dk_180 0 18 (dk_at dksX5_debt_2 16 rfl rfl)
theorem dX5_debt_66 : decode cX5_debt 66 = .ok (.new 184, 3) := dk_187 0 184 (dk_at dksX5_debt_2 19 rfl rfl)
theorem dX5_debt_69 : decode cX5_debt 69 = .ok (.dup, 1) := dk_89 (dk_at dksX5_debt_2 22 rfl rfl)
theorem dX5_debt_70 : decode cX5_debt 70 = .ok (.aload_n 0, 1) := dk_42 (dk_at dksX5_debt_2 23 rfl rfl)
theorem dX5_debt_71 : decode cX5_debt 71 = .ok (.getfield 18, 3) := dk_180 0 18 (dk_at dksX5_debt_3 0 rfl rfl)
theorem dX5_debt_74 : decode cX5_debt 74 = .ok (.getfield 181, 3) := dk_180 0 181 (dk_at dksX5_debt_3 3 rfl rfl)
theorem dX5_debt_77 : decode cX5_debt 77 = .ok (.invokevirtual 107, 3) := dk_182 0 107 (dk_at dksX5_debt_3 6 rfl rfl)
theorem dX5_debt_80 : decode cX5_debt 80 = .ok (.iconst 0, 1) := dk_3 (dk_at dksX5_debt_3 9 rfl rfl)
theorem dX5_debt_81 : decode cX5_debt 81 = .ok (.iload_n 2, 1) := dk_28 (dk_at dksX5_debt_3 10 rfl rfl)
theorem dX5_debt_82 : decode cX5_debt 82 = .ok (.iload_n 3, 1) := dk_29 (dk_at dksX5_debt_3 11 rfl rfl)
theorem dX5_debt_83 : decode cX5_debt 83 = .ok (.invokespecial 186, 3) := dk_183 0 186 (dk_at dksX5_debt_3 12 rfl rfl)
theorem dX5_debt_86 : decode cX5_debt 86 = .ok (.iload_n 1, 1) := dk_27 (dk_at dksX5_debt_3 15 rfl rfl)
theorem dX5_debt_87 : decode cX5_debt 87 = .ok (.invokevirtual 188, 3) := dk_182 0 188 (dk_at dksX5_debt_3 16 rfl rfl)
theorem dX5_debt_90 : decode cX5_debt 90 = .ok (.return_, 1) := dk_177 (dk_at dksX5_debt_3 19 rfl rfl)
abbrev cX5_path : ByteArray := prog_12_method_16_code
def yX5_path : MethodName := ⟨RX5, "path", "()V"⟩
def dkwX5_path_6 : List UInt8 := [182, 0, 107, 3, 29, 21, 4, 183, 0, 207, 27, 182, 0, 188, 177]
abbrev dktX5_path_6 : List UInt8 := dkwX5_path_6 ++ []
def dkwX5_path_5 : List UInt8 := [167, 0, 4, 3, 182, 0, 95, 42, 180, 0, 18, 187, 0, 205, 89, 42, 180, 0, 18, 180, 0, 181]
abbrev dktX5_path_5 : List UInt8 := dkwX5_path_5 ++ dktX5_path_6
def dkwX5_path_4 : List UInt8 := [154, 0, 7, 4, 167, 0, 4, 3, 182, 0, 99, 54, 4, 42, 42, 180, 0, 53, 7, 160, 0, 7, 4]
abbrev dktX5_path_4 : List UInt8 := dkwX5_path_4 ++ dktX5_path_5
def dkwX5_path_3 : List UInt8 := [42, 180, 0, 81, 182, 0, 199, 153, 0, 23, 42, 180, 0, 18, 27, 29, 42, 180, 0, 81, 182, 0, 202]
abbrev dktX5_path_3 : List UInt8 := dkwX5_path_3 ++ dktX5_path_4
def dkwX5_path_2 : List UInt8 := [77, 42, 44, 180, 0, 193, 44, 180, 0, 193, 44, 180, 0, 196, 96, 4, 100, 182, 0, 173, 62, 42, 44, 29]
abbrev dktX5_path_2 : List UInt8 := dkwX5_path_2 ++ dktX5_path_3
def dkwX5_path_1 : List UInt8 := [162, 0, 7, 4, 167, 0, 4, 3, 182, 0, 95, 42, 182, 0, 144, 60, 42, 180, 0, 18, 27, 182, 0, 112]
abbrev dktX5_path_1 : List UInt8 := dkwX5_path_1 ++ dktX5_path_2
def dkwX5_path_0 : List UInt8 := [42, 42, 18, 191, 182, 0, 131, 153, 0, 22, 42, 180, 0, 18, 180, 0, 181, 182, 0, 107, 16, 20]
abbrev dktX5_path_0 : List UInt8 := dkwX5_path_0 ++ dktX5_path_1
theorem dksX5_path_0 : cX5_path.data.toList.drop 0 = dktX5_path_0 := by decide +kernel
theorem dksX5_path_1 : cX5_path.data.toList.drop 22 = dktX5_path_1 := dk_seg dksX5_path_0 22 rfl rfl
theorem dksX5_path_2 : cX5_path.data.toList.drop 46 = dktX5_path_2 := dk_seg dksX5_path_1 24 rfl rfl
theorem dksX5_path_3 : cX5_path.data.toList.drop 70 = dktX5_path_3 := dk_seg dksX5_path_2 24 rfl rfl
theorem dksX5_path_4 : cX5_path.data.toList.drop 93 = dktX5_path_4 := dk_seg dksX5_path_3 23 rfl rfl
theorem dksX5_path_5 : cX5_path.data.toList.drop 116 = dktX5_path_5 := dk_seg dksX5_path_4 23 rfl rfl
theorem dksX5_path_6 : cX5_path.data.toList.drop 138 = dktX5_path_6 := dk_seg dksX5_path_5 22 rfl rfl
theorem dX5_path_0 : decode cX5_path 0 = .ok (.aload_n 0, 1) := dk_42 (dk_at dksX5_path_0 0 rfl rfl)
theorem dX5_path_1 : decode cX5_path 1 = .ok (.aload_n 0, 1) := dk_42 (dk_at dksX5_path_0 1 rfl rfl)
theorem dX5_path_2 : decode cX5_path 2 = .ok (.ldc 191, 2) := dk_18 191 (dk_at dksX5_path_0 2 rfl rfl)
theorem dX5_path_4 : decode cX5_path 4 = .ok (.invokevirtual 131, 3) := dk_182 0 131 (dk_at dksX5_path_0 4 rfl rfl)
theorem dX5_path_7 : decode cX5_path 7 = .ok (.ifCond .eq 22, 3) := dk_153 0 22 (dk_at dksX5_path_0 7 rfl rfl)
theorem dX5_path_10 : decode cX5_path 10 = .ok (.aload_n 0, 1) := dk_42 (dk_at dksX5_path_0 10 rfl rfl)
theorem dX5_path_11 : decode cX5_path 11 = .ok (.getfield 18, 3) := dk_180 0 18 (dk_at dksX5_path_0 11 rfl rfl)
theorem dX5_path_14 : decode cX5_path 14 = .ok (.getfield 181, 3) := dk_180 0 181 (dk_at dksX5_path_0 14 rfl rfl)
theorem dX5_path_17 : decode cX5_path 17 = .ok (.invokevirtual 107, 3) := dk_182 0 107 (dk_at dksX5_path_0 17 rfl rfl)
theorem dX5_path_20 : decode cX5_path 20 = .ok (.bipush 20, 2) := dk_16 20 (dk_at dksX5_path_0 20 rfl rfl)
theorem dX5_path_22 : decode cX5_path 22 = .ok (.if_icmp .ge 7, 3) := dk_162 0 7 (dk_at dksX5_path_1 0 rfl rfl)
theorem dX5_path_25 : decode cX5_path 25 = .ok (.iconst 1, 1) := dk_4 (dk_at dksX5_path_1 3 rfl rfl)
theorem dX5_path_26 : decode cX5_path 26 = .ok (.goto 4, 3) := dk_167 0 4 (dk_at dksX5_path_1 4 rfl rfl)
theorem dX5_path_29 : decode cX5_path 29 = .ok (.iconst 0, 1) := dk_3 (dk_at dksX5_path_1 7 rfl rfl)
theorem dX5_path_30 : decode cX5_path 30 = .ok (.invokevirtual 95, 3) := dk_182 0 95 (dk_at dksX5_path_1 8 rfl rfl)
theorem dX5_path_33 : decode cX5_path 33 = .ok (.aload_n 0, 1) := dk_42 (dk_at dksX5_path_1 11 rfl rfl)
theorem dX5_path_34 : decode cX5_path 34 = .ok (.invokevirtual 144, 3) := dk_182 0 144 (dk_at dksX5_path_1 12 rfl rfl)
theorem dX5_path_37 : decode cX5_path 37 = .ok (.istore_n 1, 1) := dk_60 (dk_at dksX5_path_1 15 rfl rfl)
theorem dX5_path_38 : decode cX5_path 38 = .ok (.aload_n 0, 1) := dk_42 (dk_at dksX5_path_1 16 rfl rfl)
theorem dX5_path_39 : decode cX5_path 39 = .ok (.getfield 18, 3) := dk_180 0 18 (dk_at dksX5_path_1 17 rfl rfl)
theorem dX5_path_42 : decode cX5_path 42 = .ok (.iload_n 1, 1) := dk_27 (dk_at dksX5_path_1 20 rfl rfl)
theorem dX5_path_43 : decode cX5_path 43 = .ok (.invokevirtual 112, 3) := dk_182 0 112 (dk_at dksX5_path_1 21 rfl rfl)
theorem dX5_path_46 : decode cX5_path 46 = .ok (.astore_n 2, 1) := dk_77 (dk_at dksX5_path_2 0 rfl rfl)
theorem dX5_path_47 : decode cX5_path 47 = .ok (.aload_n 0, 1) := dk_42 (dk_at dksX5_path_2 1 rfl rfl)
theorem dX5_path_48 : decode cX5_path 48 = .ok (.aload_n 2, 1) := dk_44 (dk_at dksX5_path_2 2 rfl rfl)
theorem dX5_path_49 : decode cX5_path 49 = .ok (.getfield 193, 3) := dk_180 0 193 (dk_at dksX5_path_2 3 rfl rfl)
theorem dX5_path_52 : decode cX5_path 52 = .ok (.aload_n 2, 1) := dk_44 (dk_at dksX5_path_2 6 rfl rfl)
theorem dX5_path_53 : decode cX5_path 53 = .ok (.getfield 193, 3) := dk_180 0 193 (dk_at dksX5_path_2 7 rfl rfl)
theorem dX5_path_56 : decode cX5_path 56 = .ok (.aload_n 2, 1) := dk_44 (dk_at dksX5_path_2 10 rfl rfl)
theorem dX5_path_57 : decode cX5_path 57 = .ok (.getfield 196, 3) := dk_180 0 196 (dk_at dksX5_path_2 11 rfl rfl)
theorem dX5_path_60 : decode cX5_path 60 = .ok (.iadd, 1) := dk_96 (dk_at dksX5_path_2 14 rfl rfl)
theorem dX5_path_61 : decode cX5_path 61 = .ok (.iconst 1, 1) := dk_4 (dk_at dksX5_path_2 15 rfl rfl)
theorem dX5_path_62 : decode cX5_path 62 = .ok (.isub, 1) := dk_100 (dk_at dksX5_path_2 16 rfl rfl)
theorem dX5_path_63 : decode cX5_path 63 = .ok (.invokevirtual 173, 3) := dk_182 0 173 (dk_at dksX5_path_2 17 rfl rfl)
theorem dX5_path_66 : decode cX5_path 66 = .ok (.istore_n 3, 1) := dk_62 (dk_at dksX5_path_2 20 rfl rfl)
theorem dX5_path_67 : decode cX5_path 67 = .ok (.aload_n 0, 1) := dk_42 (dk_at dksX5_path_2 21 rfl rfl)
theorem dX5_path_68 : decode cX5_path 68 = .ok (.aload_n 2, 1) := dk_44 (dk_at dksX5_path_2 22 rfl rfl)
theorem dX5_path_69 : decode cX5_path 69 = .ok (.iload_n 3, 1) := dk_29 (dk_at dksX5_path_2 23 rfl rfl)
theorem dX5_path_70 : decode cX5_path 70 = .ok (.aload_n 0, 1) := dk_42 (dk_at dksX5_path_3 0 rfl rfl)
theorem dX5_path_71 : decode cX5_path 71 = .ok (.getfield 81, 3) := dk_180 0 81 (dk_at dksX5_path_3 1 rfl rfl)
theorem dX5_path_74 : decode cX5_path 74 = .ok (.invokevirtual 199, 3) := dk_182 0 199 (dk_at dksX5_path_3 4 rfl rfl)
theorem dX5_path_77 : decode cX5_path 77 = .ok (.ifCond .eq 23, 3) := dk_153 0 23 (dk_at dksX5_path_3 7 rfl rfl)
theorem dX5_path_80 : decode cX5_path 80 = .ok (.aload_n 0, 1) := dk_42 (dk_at dksX5_path_3 10 rfl rfl)
theorem dX5_path_81 : decode cX5_path 81 = .ok (.getfield 18, 3) := dk_180 0 18 (dk_at dksX5_path_3 11 rfl rfl)
theorem dX5_path_84 : decode cX5_path 84 = .ok (.iload_n 1, 1) := dk_27 (dk_at dksX5_path_3 14 rfl rfl)
theorem dX5_path_85 : decode cX5_path 85 = .ok (.iload_n 3, 1) := dk_29 (dk_at dksX5_path_3 15 rfl rfl)
theorem dX5_path_86 : decode cX5_path 86 = .ok (.aload_n 0, 1) := dk_42 (dk_at dksX5_path_3 16 rfl rfl)
theorem dX5_path_87 : decode cX5_path 87 = .ok (.getfield 81, 3) := dk_180 0 81 (dk_at dksX5_path_3 17 rfl rfl)
theorem dX5_path_90 : decode cX5_path 90 = .ok (.invokevirtual 202, 3) := dk_182 0 202 (dk_at dksX5_path_3 20 rfl rfl)
theorem dX5_path_93 : decode cX5_path 93 = .ok (.ifCond .ne 7, 3) := dk_154 0 7 (dk_at dksX5_path_4 0 rfl rfl)
theorem dX5_path_96 : decode cX5_path 96 = .ok (.iconst 1, 1) := dk_4 (dk_at dksX5_path_4 3 rfl rfl)
theorem dX5_path_97 : decode cX5_path 97 = .ok (.goto 4, 3) := dk_167 0 4 (dk_at dksX5_path_4 4 rfl rfl)
theorem dX5_path_100 : decode cX5_path 100 = .ok (.iconst 0, 1) := dk_3 (dk_at dksX5_path_4 7 rfl rfl)
theorem dX5_path_101 : decode cX5_path 101 = .ok (.invokevirtual 99, 3) := dk_182 0 99 (dk_at dksX5_path_4 8 rfl rfl)
theorem dX5_path_104 : decode cX5_path 104 = .ok (.istore 4, 2) := dk_54 4 (dk_at dksX5_path_4 11 rfl rfl)
theorem dX5_path_106 : decode cX5_path 106 = .ok (.aload_n 0, 1) := dk_42 (dk_at dksX5_path_4 13 rfl rfl)
theorem dX5_path_107 : decode cX5_path 107 = .ok (.aload_n 0, 1) := dk_42 (dk_at dksX5_path_4 14 rfl rfl)
theorem dX5_path_108 : decode cX5_path 108 = .ok (.getfield 53, 3) := dk_180 0 53 (dk_at dksX5_path_4 15 rfl rfl)
theorem dX5_path_111 : decode cX5_path 111 = .ok (.iconst 4, 1) := dk_7 (dk_at dksX5_path_4 18 rfl rfl)
theorem dX5_path_112 : decode cX5_path 112 = .ok (.if_icmp .ne 7, 3) := dk_160 0 7 (dk_at dksX5_path_4 19 rfl rfl)
theorem dX5_path_115 : decode cX5_path 115 = .ok (.iconst 1, 1) := dk_4 (dk_at dksX5_path_4 22 rfl rfl)
theorem dX5_path_116 : decode cX5_path 116 = .ok (.goto 4, 3) := dk_167 0 4 (dk_at dksX5_path_5 0 rfl rfl)
theorem dX5_path_119 : decode cX5_path 119 = .ok (.iconst 0, 1) := dk_3 (dk_at dksX5_path_5 3 rfl rfl)
theorem dX5_path_120 : decode cX5_path 120 = .ok (.invokevirtual 95, 3) := dk_182 0 95 (dk_at dksX5_path_5 4 rfl rfl)
theorem dX5_path_123 : decode cX5_path 123 = .ok (.aload_n 0, 1) := dk_42 (dk_at dksX5_path_5 7 rfl rfl)
theorem dX5_path_124 : decode cX5_path 124 = .ok (.getfield 18, 3) := dk_180 0 18 (dk_at dksX5_path_5 8 rfl rfl)
theorem dX5_path_127 : decode cX5_path 127 = .ok (.new 205, 3) := dk_187 0 205 (dk_at dksX5_path_5 11 rfl rfl)
theorem dX5_path_130 : decode cX5_path 130 = .ok (.dup, 1) := dk_89 (dk_at dksX5_path_5 14 rfl rfl)
theorem dX5_path_131 : decode cX5_path 131 = .ok (.aload_n 0, 1) := dk_42 (dk_at dksX5_path_5 15 rfl rfl)
theorem dX5_path_132 : decode cX5_path 132 = .ok (.getfield 18, 3) := dk_180 0 18 (dk_at dksX5_path_5 16 rfl rfl)
theorem dX5_path_135 : decode cX5_path 135 = .ok (.getfield 181, 3) := dk_180 0 181 (dk_at dksX5_path_5 19 rfl rfl)
theorem dX5_path_138 : decode cX5_path 138 = .ok (.invokevirtual 107, 3) := dk_182 0 107 (dk_at dksX5_path_6 0 rfl rfl)
theorem dX5_path_141 : decode cX5_path 141 = .ok (.iconst 0, 1) := dk_3 (dk_at dksX5_path_6 3 rfl rfl)
theorem dX5_path_142 : decode cX5_path 142 = .ok (.iload_n 3, 1) := dk_29 (dk_at dksX5_path_6 4 rfl rfl)
theorem dX5_path_143 : decode cX5_path 143 = .ok (.iload 4, 2) := dk_21 4 (dk_at dksX5_path_6 5 rfl rfl)
theorem dX5_path_145 : decode cX5_path 145 = .ok (.invokespecial 207, 3) := dk_183 0 207 (dk_at dksX5_path_6 7 rfl rfl)
theorem dX5_path_148 : decode cX5_path 148 = .ok (.iload_n 1, 1) := dk_27 (dk_at dksX5_path_6 10 rfl rfl)
theorem dX5_path_149 : decode cX5_path 149 = .ok (.invokevirtual 188, 3) := dk_182 0 188 (dk_at dksX5_path_6 11 rfl rfl)
theorem dX5_path_152 : decode cX5_path 152 = .ok (.return_, 1) := dk_177 (dk_at dksX5_path_6 14 rfl rfl)
theorem q115 : (Jvm.Cond.initialized "LandFolio$Reader") ∈ lw_all := lw_g (lw_at lw_m1 14 rfl) rfl
theorem q193 : (Jvm.Cond.fieldLinkNest "LandFolio$Reader" (122 : Nat) "LandFolio$Folio" "owners" "Ljava/util/ArrayList;" "LandFolio") ∈ lw_tbl := lw_at lw_m1 92 rfl
theorem q196 : (Jvm.Cond.fieldLinkNest "LandFolio$Reader" (103 : Nat) "LandFolio$Folio" "parcels" "Ljava/util/ArrayList;" "LandFolio") ∈ lw_tbl := lw_at lw_m1 95 rfl
theorem q202 : (Jvm.Cond.fieldLinkNest "LandFolio$Reader" (181 : Nat) "LandFolio$Folio" "burdens" "Ljava/util/ArrayList;" "LandFolio") ∈ lw_tbl := lw_at lw_m1 101 rfl
theorem q267 : (Jvm.Cond.selects "LandFolio$Reader" ({ cls := "java/lang/Object", name := "getClass", desc := "()Ljava/lang/Class;" } : Jvm.MethodName) ({ cls := "java/lang/Object", name := "getClass", desc := "()Ljava/lang/Class;" } : Jvm.MethodName)) ∈ lw_all := lw_g (lw_at lw_m1 166 rfl) rfl
theorem q307 : (Jvm.Cond.fieldLinkNest "LandFolio$Reader" (193 : Nat) "LandFolio$Parcel" "x" "I" "LandFolio") ∈ lw_tbl := lw_at lw_m1 206 rfl
theorem q315 : (Jvm.Cond.fieldLinkNest "LandFolio$Reader" (196 : Nat) "LandFolio$Parcel" "wide" "I" "LandFolio") ∈ lw_tbl := lw_at lw_m1 214 rfl
theorem q374 : (Jvm.Cond.fieldLinkNest "LandFolio$Reader" (167 : Nat) "LandFolio$Deed" "shares" "[I" "LandFolio") ∈ lw_tbl := lw_at lw_m2 33 rfl
theorem q405 : (Jvm.Cond.fieldLinkNest "LandFolio$Reader" (38 : Nat) "LandFolio" "tape" "[B" "LandFolio") ∈ lw_tbl := lw_at lw_m2 64 rfl
theorem q407 : (Jvm.Cond.fieldLinkNest "LandFolio$Reader" (35 : Nat) "LandFolio" "taped" "I" "LandFolio") ∈ lw_tbl := lw_at lw_m2 66 rfl
theorem q729 : (Jvm.Cond.instantiable "LandFolio$Reader" (7 : Nat)) ∈ lw_all := lw_g (lw_at lw_m3 148 rfl) rfl
theorem q731 : (Jvm.Cond.instanceMethod ({ cls := "LandFolio$Reader", name := "<init>", desc := "(LLandFolio;)V" } : Jvm.MethodName)) ∈ lw_all := lw_g (lw_at lw_m3 150 rfl) rfl
theorem q732 : (Jvm.Cond.code ({ cls := "LandFolio$Reader", name := "<init>", desc := "(LLandFolio;)V" } : Jvm.MethodName) prog_12_method_1_code (2 : Nat) (Option.none : Option Jvm.ClassFile.FieldType)) ∈ lw_all := lw_g (lw_at lw_m3 151 rfl) rfl
theorem q733 : (Jvm.Cond.methodLink "LandFolio$Reader" (9 : Nat) ({ cls := "java/lang/Object", name := "<init>", desc := "()V" } : Jvm.MethodName)) ∈ lw_all := lw_g (lw_at lw_m3 152 rfl) rfl
theorem q734 : (Jvm.Cond.classLink "LandFolio$Reader" (15 : Nat) "LandFolio$Folio") ∈ lw_all := lw_g (lw_at lw_m3 153 rfl) rfl
theorem q735 : (Jvm.Cond.methodLinkNest "LandFolio$Reader" (17 : Nat) ({ cls := "LandFolio$Folio", name := "<init>", desc := "()V" } : Jvm.MethodName) "LandFolio") ∈ lw_tbl := lw_at lw_m3 154 rfl
theorem q736 : (Jvm.Cond.stringRef "LandFolio$Reader" (22 : Nat) "") ∈ lw_tbl := lw_at lw_m3 155 rfl
theorem q737 : (Jvm.Cond.methodLink "LandFolio$Reader" (28 : Nat) ({ cls := "LandFolio$Reader", name := "next", desc := "()V" } : Jvm.MethodName)) ∈ lw_all := lw_g (lw_at lw_m3 156 rfl) rfl
theorem q738 : (Jvm.Cond.instanceMethod ({ cls := "LandFolio$Reader", name := "next", desc := "()V" } : Jvm.MethodName)) ∈ lw_all := lw_g (lw_at lw_m3 157 rfl) rfl
theorem q739 : (Jvm.Cond.selects "LandFolio$Reader" ({ cls := "LandFolio$Reader", name := "next", desc := "()V" } : Jvm.MethodName) ({ cls := "LandFolio$Reader", name := "next", desc := "()V" } : Jvm.MethodName)) ∈ lw_all := lw_g (lw_at lw_m3 158 rfl) rfl
theorem q740 : (Jvm.Cond.code ({ cls := "LandFolio$Reader", name := "next", desc := "()V" } : Jvm.MethodName) prog_12_method_3_code (1 : Nat) (Option.none : Option Jvm.ClassFile.FieldType)) ∈ lw_all := lw_g (lw_at lw_m3 159 rfl) rfl
theorem q741 : (Jvm.Cond.methodLink "LandFolio$Reader" (46 : Nat) ({ cls := "LandFolio$Reader", name := "isAt", desc := "(II)Z" } : Jvm.MethodName)) ∈ lw_all := lw_g (lw_at lw_m3 160 rfl) rfl
theorem q742 : (Jvm.Cond.privateMethod ({ cls := "LandFolio$Reader", name := "isAt", desc := "(II)Z" } : Jvm.MethodName)) ∈ lw_tbl := lw_at lw_m3 161 rfl
theorem q743 : (Jvm.Cond.instanceMethod ({ cls := "LandFolio$Reader", name := "isAt", desc := "(II)Z" } : Jvm.MethodName)) ∈ lw_all := lw_g (lw_at lw_m3 162 rfl) rfl
theorem q744 : (Jvm.Cond.code ({ cls := "LandFolio$Reader", name := "isAt", desc := "(II)Z" } : Jvm.MethodName) prog_12_method_2_code (3 : Nat) (Option.some Jvm.ClassFile.FieldType.boolean)) ∈ lw_all := lw_g (lw_at lw_m3 163 rfl) rfl
theorem q745 : (Jvm.Cond.methodLinkNest "LandFolio$Reader" (42 : Nat) ({ cls := "LandFolio", name := "isIn", desc := "(III)Z" } : Jvm.MethodName) "LandFolio") ∈ lw_tbl := lw_at lw_m3 164 rfl
theorem q746 : (Jvm.Cond.methodLink "LandFolio$Reader" (56 : Nat) ({ cls := "LandFolio$Reader", name := "letters", desc := "()V" } : Jvm.MethodName)) ∈ lw_all := lw_g (lw_at lw_m3 165 rfl) rfl
theorem q747 : (Jvm.Cond.privateMethod ({ cls := "LandFolio$Reader", name := "letters", desc := "()V" } : Jvm.MethodName)) ∈ lw_tbl := lw_at lw_m3 166 rfl
theorem q748 : (Jvm.Cond.instanceMethod ({ cls := "LandFolio$Reader", name := "letters", desc := "()V" } : Jvm.MethodName)) ∈ lw_all := lw_g (lw_at lw_m3 167 rfl) rfl
theorem q749 : (Jvm.Cond.code ({ cls := "LandFolio$Reader", name := "letters", desc := "()V" } : Jvm.MethodName) prog_12_method_4_code (2 : Nat) (Option.none : Option Jvm.ClassFile.FieldType)) ∈ lw_all := lw_g (lw_at lw_m3 168 rfl) rfl
theorem q750 : (Jvm.Cond.classLink "LandFolio$Reader" (62 : Nat) "java/lang/StringBuilder") ∈ lw_all := lw_g (lw_at lw_m3 169 rfl) rfl
theorem q752 : (Jvm.Cond.methodLink "LandFolio$Reader" (64 : Nat) ({ cls := "java/lang/StringBuilder", name := "<init>", desc := "()V" } : Jvm.MethodName)) ∈ lw_all := lw_g (lw_at lw_m3 171 rfl) rfl
theorem q781 : (Jvm.Cond.methodLink "LandFolio$Reader" (65 : Nat) ({ cls := "java/lang/StringBuilder", name := "length", desc := "()I" } : Jvm.MethodName)) ∈ lw_all := lw_g (lw_at lw_m3 200 rfl) rfl
theorem q788 : (Jvm.Cond.methodLink "LandFolio$Reader" (69 : Nat) ({ cls := "java/lang/StringBuilder", name := "append", desc := "(C)Ljava/lang/StringBuilder;" } : Jvm.MethodName)) ∈ lw_all := lw_g (lw_at lw_m3 207 rfl) rfl
theorem q864 : (Jvm.Cond.methodLink "LandFolio$Reader" (73 : Nat) ({ cls := "java/lang/StringBuilder", name := "toString", desc := "()Ljava/lang/String;" } : Jvm.MethodName)) ∈ lw_all := lw_g (lw_at lw_m4 43 rfl) rfl
theorem q920 : (Jvm.Cond.methodLinkNest "LandFolio$Reader" (77 : Nat) ({ cls := "LandFolio", name := "kindOf", desc := "(Ljava/lang/String;)I" } : Jvm.MethodName) "LandFolio") ∈ lw_tbl := lw_at lw_m4 99 rfl
theorem q1001 : (Jvm.Cond.methodLink "LandFolio$Reader" (59 : Nat) ({ cls := "LandFolio$Reader", name := "numerals", desc := "()V" } : Jvm.MethodName)) ∈ lw_all := lw_g (lw_at lw_m4 180 rfl) rfl
theorem q1002 : (Jvm.Cond.privateMethod ({ cls := "LandFolio$Reader", name := "numerals", desc := "()V" } : Jvm.MethodName)) ∈ lw_tbl := lw_at lw_m4 181 rfl
theorem q1003 : (Jvm.Cond.instanceMethod ({ cls := "LandFolio$Reader", name := "numerals", desc := "()V" } : Jvm.MethodName)) ∈ lw_all := lw_g (lw_at lw_m4 182 rfl) rfl
theorem q1004 : (Jvm.Cond.code ({ cls := "LandFolio$Reader", name := "numerals", desc := "()V" } : Jvm.MethodName) prog_12_method_5_code (1 : Nat) (Option.none : Option Jvm.ClassFile.FieldType)) ∈ lw_all := lw_g (lw_at lw_m4 183 rfl) rfl
theorem q1005 : (Jvm.Cond.fieldLink "LandFolio$Reader" (18 : Nat) "LandFolio$Reader" "read" "LLandFolio$Folio;") ∈ lw_all := lw_g (lw_at lw_m4 184 rfl) rfl
theorem q1007 : (Jvm.Cond.fieldLink "LandFolio$Reader" (31 : Nat) "LandFolio$Reader" "at" "I") ∈ lw_all := lw_g (lw_at lw_m4 186 rfl) rfl
theorem q1008 : (Jvm.Cond.fieldLink "LandFolio$Reader" (50 : Nat) "LandFolio$Reader" "start" "I") ∈ lw_all := lw_g (lw_at lw_m4 187 rfl) rfl
theorem q1009 : (Jvm.Cond.fieldLink "LandFolio$Reader" (53 : Nat) "LandFolio$Reader" "kind" "I") ∈ lw_all := lw_g (lw_at lw_m4 188 rfl) rfl
theorem q1010 : (Jvm.Cond.fieldLink "LandFolio$Reader" (24 : Nat) "LandFolio$Reader" "word" "Ljava/lang/String;") ∈ lw_all := lw_g (lw_at lw_m4 189 rfl) rfl
theorem q1011 : (Jvm.Cond.fieldLink "LandFolio$Reader" (81 : Nat) "LandFolio$Reader" "number" "I") ∈ lw_all := lw_g (lw_at lw_m4 190 rfl) rfl
theorem q1012 : (Jvm.Cond.fieldLink "LandFolio$Reader" (3 : Nat) "LandFolio$Reader" "this$0" "LLandFolio;") ∈ lw_all := lw_g (lw_at lw_m4 191 rfl) rfl
theorem q1013 : (Jvm.Cond.laysFinal "LandFolio$Reader" "LandFolio$Reader" "read" "LLandFolio$Folio;") ∈ lw_all := lw_g (lw_at lw_m4 192 rfl) rfl
theorem q1014 : (Jvm.Cond.soleField "LandFolio$Reader" "read") ∈ lw_all := lw_g (lw_at lw_m4 193 rfl) rfl
theorem q1015 : (Jvm.Cond.lays "LandFolio$Reader" "LandFolio$Reader" "at" "I") ∈ lw_all := lw_g (lw_at lw_m4 194 rfl) rfl
theorem q1016 : (Jvm.Cond.soleField "LandFolio$Reader" "at") ∈ lw_all := lw_g (lw_at lw_m4 195 rfl) rfl
theorem q1017 : (Jvm.Cond.lays "LandFolio$Reader" "LandFolio$Reader" "start" "I") ∈ lw_all := lw_g (lw_at lw_m4 196 rfl) rfl
theorem q1018 : (Jvm.Cond.soleField "LandFolio$Reader" "start") ∈ lw_all := lw_g (lw_at lw_m4 197 rfl) rfl
theorem q1019 : (Jvm.Cond.lays "LandFolio$Reader" "LandFolio$Reader" "kind" "I") ∈ lw_all := lw_g (lw_at lw_m4 198 rfl) rfl
theorem q1020 : (Jvm.Cond.soleField "LandFolio$Reader" "kind") ∈ lw_all := lw_g (lw_at lw_m4 199 rfl) rfl
theorem q1021 : (Jvm.Cond.lays "LandFolio$Reader" "LandFolio$Reader" "word" "Ljava/lang/String;") ∈ lw_all := lw_g (lw_at lw_m4 200 rfl) rfl
theorem q1022 : (Jvm.Cond.soleField "LandFolio$Reader" "word") ∈ lw_all := lw_g (lw_at lw_m4 201 rfl) rfl
theorem q1023 : (Jvm.Cond.lays "LandFolio$Reader" "LandFolio$Reader" "number" "I") ∈ lw_all := lw_g (lw_at lw_m4 202 rfl) rfl
theorem q1024 : (Jvm.Cond.soleField "LandFolio$Reader" "number") ∈ lw_all := lw_g (lw_at lw_m4 203 rfl) rfl
theorem q1025 : (Jvm.Cond.laysFinal "LandFolio$Reader" "LandFolio$Reader" "this$0" "LLandFolio;") ∈ lw_all := lw_g (lw_at lw_m4 204 rfl) rfl
theorem q1026 : (Jvm.Cond.soleField "LandFolio$Reader" "this$0") ∈ lw_all := lw_g (lw_at lw_m4 205 rfl) rfl
theorem q1027 : (Jvm.Cond.superclass "LandFolio$Reader" "java/lang/Object") ∈ lw_all := lw_g (lw_at lw_m4 206 rfl) rfl
theorem q1029 : (Jvm.Cond.instanceMethod ({ cls := "LandFolio$Reader", name := "setup", desc := "()V" } : Jvm.MethodName)) ∈ lw_all := lw_g (lw_at lw_m4 208 rfl) rfl
theorem q1030 : (Jvm.Cond.selects "LandFolio$Reader" ({ cls := "LandFolio$Reader", name := "setup", desc := "()V" } : Jvm.MethodName) ({ cls := "LandFolio$Reader", name := "setup", desc := "()V" } : Jvm.MethodName)) ∈ lw_all := lw_g (lw_at lw_m4 209 rfl) rfl
theorem q1031 : (Jvm.Cond.code ({ cls := "LandFolio$Reader", name := "setup", desc := "()V" } : Jvm.MethodName) prog_12_method_17_code (3 : Nat) (Option.none : Option Jvm.ClassFile.FieldType)) ∈ lw_all := lw_g (lw_at lw_m4 210 rfl) rfl
theorem q1032 : (Jvm.Cond.stringRef "LandFolio$Reader" (208 : Nat) "land") ∈ lw_tbl := lw_at lw_m4 211 rfl
theorem q1033 : (Jvm.Cond.methodLink "LandFolio$Reader" (131 : Nat) ({ cls := "LandFolio$Reader", name := "isKey", desc := "(Ljava/lang/String;)Z" } : Jvm.MethodName)) ∈ lw_all := lw_g (lw_at lw_m4 212 rfl) rfl
theorem q1034 : (Jvm.Cond.privateMethod ({ cls := "LandFolio$Reader", name := "isKey", desc := "(Ljava/lang/String;)Z" } : Jvm.MethodName)) ∈ lw_tbl := lw_at lw_m4 213 rfl
theorem q1035 : (Jvm.Cond.instanceMethod ({ cls := "LandFolio$Reader", name := "isKey", desc := "(Ljava/lang/String;)Z" } : Jvm.MethodName)) ∈ lw_all := lw_g (lw_at lw_m4 214 rfl) rfl
theorem q1036 : (Jvm.Cond.code ({ cls := "LandFolio$Reader", name := "isKey", desc := "(Ljava/lang/String;)Z" } : Jvm.MethodName) prog_12_method_7_code (2 : Nat) (Option.some Jvm.ClassFile.FieldType.boolean)) ∈ lw_all := lw_g (lw_at lw_m4 215 rfl) rfl
theorem q1037 : (Jvm.Cond.methodLink "LandFolio$Reader" (89 : Nat) ({ cls := "java/lang/String", name := "equals", desc := "(Ljava/lang/Object;)Z" } : Jvm.MethodName)) ∈ lw_all := lw_g (lw_at lw_m4 216 rfl) rfl
theorem q1038 : (Jvm.Cond.methodLink "LandFolio$Reader" (95 : Nat) ({ cls := "LandFolio$Reader", name := "takes", desc := "(Z)V" } : Jvm.MethodName)) ∈ lw_all := lw_g (lw_at lw_m4 217 rfl) rfl
theorem q1039 : (Jvm.Cond.instanceMethod ({ cls := "LandFolio$Reader", name := "takes", desc := "(Z)V" } : Jvm.MethodName)) ∈ lw_all := lw_g (lw_at lw_m4 218 rfl) rfl
theorem q1040 : (Jvm.Cond.selects "LandFolio$Reader" ({ cls := "LandFolio$Reader", name := "takes", desc := "(Z)V" } : Jvm.MethodName) ({ cls := "LandFolio$Reader", name := "takes", desc := "(Z)V" } : Jvm.MethodName)) ∈ lw_all := lw_g (lw_at lw_m4 219 rfl) rfl
theorem q1041 : (Jvm.Cond.code ({ cls := "LandFolio$Reader", name := "takes", desc := "(Z)V" } : Jvm.MethodName) prog_12_method_6_code (2 : Nat) (Option.none : Option Jvm.ClassFile.FieldType)) ∈ lw_all := lw_g (lw_at lw_m4 220 rfl) rfl
theorem q1042 : (Jvm.Cond.classLink "LandFolio$Reader" (84 : Nat) "LandFolio$Fault") ∈ lw_all := lw_g (lw_at lw_m4 221 rfl) rfl
theorem q1080 : (Jvm.Cond.methodLink "LandFolio$Reader" (86 : Nat) ({ cls := "LandFolio$Fault", name := "<init>", desc := "(I)V" } : Jvm.MethodName)) ∈ lw_all := lw_g (lw_at lw_m5 19 rfl) rfl
theorem q1106 : (Jvm.Cond.methodLink "LandFolio$Reader" (173 : Nat) ({ cls := "LandFolio$Reader", name := "upTo", desc := "(II)I" } : Jvm.MethodName)) ∈ lw_all := lw_g (lw_at lw_m5 45 rfl) rfl
theorem q1107 : (Jvm.Cond.privateMethod ({ cls := "LandFolio$Reader", name := "upTo", desc := "(II)I" } : Jvm.MethodName)) ∈ lw_tbl := lw_at lw_m5 46 rfl
theorem q1108 : (Jvm.Cond.instanceMethod ({ cls := "LandFolio$Reader", name := "upTo", desc := "(II)I" } : Jvm.MethodName)) ∈ lw_all := lw_g (lw_at lw_m5 47 rfl) rfl
theorem q1109 : (Jvm.Cond.code ({ cls := "LandFolio$Reader", name := "upTo", desc := "(II)I" } : Jvm.MethodName) prog_12_method_9_code (3 : Nat) (Option.some Jvm.ClassFile.FieldType.int)) ∈ lw_all := lw_g (lw_at lw_m5 48 rfl) rfl
theorem q1110 : (Jvm.Cond.methodLink "LandFolio$Reader" (99 : Nat) ({ cls := "LandFolio$Reader", name := "fits", desc := "(Z)I" } : Jvm.MethodName)) ∈ lw_all := lw_g (lw_at lw_m5 49 rfl) rfl
theorem q1111 : (Jvm.Cond.privateMethod ({ cls := "LandFolio$Reader", name := "fits", desc := "(Z)I" } : Jvm.MethodName)) ∈ lw_tbl := lw_at lw_m5 50 rfl
theorem q1112 : (Jvm.Cond.instanceMethod ({ cls := "LandFolio$Reader", name := "fits", desc := "(Z)I" } : Jvm.MethodName)) ∈ lw_all := lw_g (lw_at lw_m5 51 rfl) rfl
theorem q1113 : (Jvm.Cond.code ({ cls := "LandFolio$Reader", name := "fits", desc := "(Z)I" } : Jvm.MethodName) prog_12_method_8_code (3 : Nat) (Option.some Jvm.ClassFile.FieldType.int)) ∈ lw_all := lw_g (lw_at lw_m5 52 rfl) rfl
theorem q1114 : (Jvm.Cond.stringRef "LandFolio$Reader" (210 : Nat) "price") ∈ lw_tbl := lw_at lw_m5 53 rfl
theorem q1115 : (Jvm.Cond.methodLink "LandFolio$Reader" (212 : Nat) ({ cls := "LandFolio$Folio", name := "begins", desc := "(III)V" } : Jvm.MethodName)) ∈ lw_all := lw_g (lw_at lw_m5 54 rfl) rfl
theorem q1116 : (Jvm.Cond.methodLink "LandFolio$Reader" (216 : Nat) ({ cls := "LandFolio$Reader", name := "owner", desc := "()V" } : Jvm.MethodName)) ∈ lw_all := lw_g (lw_at lw_m5 55 rfl) rfl
theorem q1117 : (Jvm.Cond.privateMethod ({ cls := "LandFolio$Reader", name := "owner", desc := "()V" } : Jvm.MethodName)) ∈ lw_tbl := lw_at lw_m5 56 rfl
theorem q1118 : (Jvm.Cond.instanceMethod ({ cls := "LandFolio$Reader", name := "owner", desc := "()V" } : Jvm.MethodName)) ∈ lw_all := lw_g (lw_at lw_m5 57 rfl) rfl
theorem q1119 : (Jvm.Cond.code ({ cls := "LandFolio$Reader", name := "owner", desc := "()V" } : Jvm.MethodName) prog_12_method_12_code (2 : Nat) (Option.none : Option Jvm.ClassFile.FieldType)) ∈ lw_all := lw_g (lw_at lw_m5 58 rfl) rfl
theorem q1120 : (Jvm.Cond.stringRef "LandFolio$Reader" (129 : Nat) "owner") ∈ lw_tbl := lw_at lw_m5 59 rfl
theorem q1121 : (Jvm.Cond.methodLink "LandFolio$Reader" (107 : Nat) ({ cls := "java/util/ArrayList", name := "size", desc := "()I" } : Jvm.MethodName)) ∈ lw_all := lw_g (lw_at lw_m5 60 rfl) rfl
theorem q1122 : (Jvm.Cond.methodLink "LandFolio$Reader" (135 : Nat) ({ cls := "java/util/ArrayList", name := "contains", desc := "(Ljava/lang/Object;)Z" } : Jvm.MethodName)) ∈ lw_all := lw_g (lw_at lw_m5 61 rfl) rfl
theorem q1148 : (Jvm.Cond.selects "LandFolio$Reader" ({ cls := "java/lang/Object", name := "equals", desc := "(Ljava/lang/Object;)Z" } : Jvm.MethodName) ({ cls := "java/lang/Object", name := "equals", desc := "(Ljava/lang/Object;)Z" } : Jvm.MethodName)) ∈ lw_all := lw_g (lw_at lw_m5 87 rfl) rfl
theorem q1161 : (Jvm.Cond.methodLink "LandFolio$Reader" (138 : Nat) ({ cls := "java/util/ArrayList", name := "add", desc := "(Ljava/lang/Object;)Z" } : Jvm.MethodName)) ∈ lw_all := lw_g (lw_at lw_m5 100 rfl) rfl
theorem q1162 : (Jvm.Cond.stringRef "LandFolio$Reader" (218 : Nat) "split") ∈ lw_tbl := lw_at lw_m5 101 rfl
theorem q1163 : (Jvm.Cond.methodLink "LandFolio$Reader" (220 : Nat) ({ cls := "LandFolio$Reader", name := "split", desc := "()V" } : Jvm.MethodName)) ∈ lw_all := lw_g (lw_at lw_m5 102 rfl) rfl
theorem q1164 : (Jvm.Cond.privateMethod ({ cls := "LandFolio$Reader", name := "split", desc := "()V" } : Jvm.MethodName)) ∈ lw_tbl := lw_at lw_m5 103 rfl
theorem q1165 : (Jvm.Cond.instanceMethod ({ cls := "LandFolio$Reader", name := "split", desc := "()V" } : Jvm.MethodName)) ∈ lw_all := lw_g (lw_at lw_m5 104 rfl) rfl
theorem q1166 : (Jvm.Cond.code ({ cls := "LandFolio$Reader", name := "split", desc := "()V" } : Jvm.MethodName) prog_12_method_13_code (5 : Nat) (Option.none : Option Jvm.ClassFile.FieldType)) ∈ lw_all := lw_g (lw_at lw_m5 105 rfl) rfl
theorem q1167 : (Jvm.Cond.methodLink "LandFolio$Reader" (141 : Nat) ({ cls := "LandFolio$Folio", name := "canSplit", desc := "()Z" } : Jvm.MethodName)) ∈ lw_all := lw_g (lw_at lw_m5 106 rfl) rfl
theorem q1171 : (Jvm.Cond.methodLink "LandFolio$Reader" (144 : Nat) ({ cls := "LandFolio$Reader", name := "live", desc := "()I" } : Jvm.MethodName)) ∈ lw_all := lw_g (lw_at lw_m5 110 rfl) rfl
theorem q1172 : (Jvm.Cond.privateMethod ({ cls := "LandFolio$Reader", name := "live", desc := "()I" } : Jvm.MethodName)) ∈ lw_tbl := lw_at lw_m5 111 rfl
theorem q1173 : (Jvm.Cond.instanceMethod ({ cls := "LandFolio$Reader", name := "live", desc := "()I" } : Jvm.MethodName)) ∈ lw_all := lw_g (lw_at lw_m5 112 rfl) rfl
theorem q1174 : (Jvm.Cond.code ({ cls := "LandFolio$Reader", name := "live", desc := "()I" } : Jvm.MethodName) prog_12_method_10_code (1 : Nat) (Option.some Jvm.ClassFile.FieldType.int)) ∈ lw_all := lw_g (lw_at lw_m5 113 rfl) rfl
theorem q1175 : (Jvm.Cond.methodLink "LandFolio$Reader" (112 : Nat) ({ cls := "LandFolio$Folio", name := "parcel", desc := "(I)LLandFolio$Parcel;" } : Jvm.MethodName)) ∈ lw_all := lw_g (lw_at lw_m5 114 rfl) rfl
theorem q1176 : (Jvm.Cond.methodLink "LandFolio$Reader" (116 : Nat) ({ cls := "LandFolio$Parcel", name := "isLive", desc := "()Z" } : Jvm.MethodName)) ∈ lw_all := lw_g (lw_at lw_m5 115 rfl) rfl
theorem q1180 : (Jvm.Cond.stringRef "LandFolio$Reader" (147 : Nat) "row") ∈ lw_tbl := lw_at lw_m5 119 rfl
theorem q1181 : (Jvm.Cond.stringRef "LandFolio$Reader" (149 : Nat) "col") ∈ lw_tbl := lw_at lw_m5 120 rfl
theorem q1182 : (Jvm.Cond.methodLinkNest "LandFolio$Reader" (151 : Nat) ({ cls := "LandFolio", name := "parts", desc := "(LLandFolio$Parcel;II)Z" } : Jvm.MethodName) "LandFolio") ∈ lw_tbl := lw_at lw_m5 121 rfl
theorem q1185 : (Jvm.Cond.methodLink "LandFolio$Reader" (155 : Nat) ({ cls := "LandFolio$Folio", name := "splits", desc := "(III)I" } : Jvm.MethodName)) ∈ lw_all := lw_g (lw_at lw_m5 124 rfl) rfl
theorem q1246 : (Jvm.Cond.stringRef "LandFolio$Reader" (222 : Nat) "give") ∈ lw_tbl := lw_at lw_m5 185 rfl
theorem q1247 : (Jvm.Cond.methodLink "LandFolio$Reader" (224 : Nat) ({ cls := "LandFolio$Reader", name := "give", desc := "()V" } : Jvm.MethodName)) ∈ lw_all := lw_g (lw_at lw_m5 186 rfl) rfl
theorem q1248 : (Jvm.Cond.privateMethod ({ cls := "LandFolio$Reader", name := "give", desc := "()V" } : Jvm.MethodName)) ∈ lw_tbl := lw_at lw_m5 187 rfl
theorem q1249 : (Jvm.Cond.instanceMethod ({ cls := "LandFolio$Reader", name := "give", desc := "()V" } : Jvm.MethodName)) ∈ lw_all := lw_g (lw_at lw_m5 188 rfl) rfl
theorem q1250 : (Jvm.Cond.code ({ cls := "LandFolio$Reader", name := "give", desc := "()V" } : Jvm.MethodName) prog_12_method_14_code (5 : Nat) (Option.none : Option Jvm.ClassFile.FieldType)) ∈ lw_all := lw_g (lw_at lw_m5 189 rfl) rfl
theorem q1251 : (Jvm.Cond.methodLink "LandFolio$Reader" (159 : Nat) ({ cls := "LandFolio$Reader", name := "known", desc := "(I)I" } : Jvm.MethodName)) ∈ lw_all := lw_g (lw_at lw_m5 190 rfl) rfl
theorem q1252 : (Jvm.Cond.privateMethod ({ cls := "LandFolio$Reader", name := "known", desc := "(I)I" } : Jvm.MethodName)) ∈ lw_tbl := lw_at lw_m5 191 rfl
theorem q1253 : (Jvm.Cond.instanceMethod ({ cls := "LandFolio$Reader", name := "known", desc := "(I)I" } : Jvm.MethodName)) ∈ lw_all := lw_g (lw_at lw_m5 192 rfl) rfl
theorem q1254 : (Jvm.Cond.code ({ cls := "LandFolio$Reader", name := "known", desc := "(I)I" } : Jvm.MethodName) prog_12_method_11_code (3 : Nat) (Option.some Jvm.ClassFile.FieldType.int)) ∈ lw_all := lw_g (lw_at lw_m5 193 rfl) rfl
theorem q1255 : (Jvm.Cond.methodLink "LandFolio$Reader" (125 : Nat) ({ cls := "java/util/ArrayList", name := "indexOf", desc := "(Ljava/lang/Object;)I" } : Jvm.MethodName)) ∈ lw_all := lw_g (lw_at lw_m5 194 rfl) rfl
theorem q1256 : (Jvm.Cond.methodLink "LandFolio$Reader" (163 : Nat) ({ cls := "LandFolio$Folio", name := "deed", desc := "(I)LLandFolio$Deed;" } : Jvm.MethodName)) ∈ lw_all := lw_g (lw_at lw_m5 195 rfl) rfl
theorem q1257 : (Jvm.Cond.methodLink "LandFolio$Reader" (177 : Nat) ({ cls := "LandFolio$Folio", name := "gives", desc := "(IIII)V" } : Jvm.MethodName)) ∈ lw_all := lw_g (lw_at lw_m5 196 rfl) rfl
theorem q1270 : (Jvm.Cond.stringRef "LandFolio$Reader" (226 : Nat) "debt") ∈ lw_tbl := lw_at lw_m5 209 rfl
theorem q1271 : (Jvm.Cond.methodLink "LandFolio$Reader" (228 : Nat) ({ cls := "LandFolio$Reader", name := "debt", desc := "()V" } : Jvm.MethodName)) ∈ lw_all := lw_g (lw_at lw_m5 210 rfl) rfl
theorem q1272 : (Jvm.Cond.privateMethod ({ cls := "LandFolio$Reader", name := "debt", desc := "()V" } : Jvm.MethodName)) ∈ lw_tbl := lw_at lw_m5 211 rfl
theorem q1273 : (Jvm.Cond.instanceMethod ({ cls := "LandFolio$Reader", name := "debt", desc := "()V" } : Jvm.MethodName)) ∈ lw_all := lw_g (lw_at lw_m5 212 rfl) rfl
theorem q1274 : (Jvm.Cond.code ({ cls := "LandFolio$Reader", name := "debt", desc := "()V" } : Jvm.MethodName) prog_12_method_15_code (4 : Nat) (Option.none : Option Jvm.ClassFile.FieldType)) ∈ lw_all := lw_g (lw_at lw_m5 213 rfl) rfl
theorem q1275 : (Jvm.Cond.classLink "LandFolio$Reader" (184 : Nat) "LandFolio$Debt") ∈ lw_all := lw_g (lw_at lw_m5 214 rfl) rfl
theorem q1276 : (Jvm.Cond.methodLink "LandFolio$Reader" (186 : Nat) ({ cls := "LandFolio$Debt", name := "<init>", desc := "(IIII)V" } : Jvm.MethodName)) ∈ lw_all := lw_g (lw_at lw_m5 215 rfl) rfl
theorem q1277 : (Jvm.Cond.methodLink "LandFolio$Reader" (188 : Nat) ({ cls := "LandFolio$Folio", name := "burdens", desc := "(LLandFolio$Burden;I)V" } : Jvm.MethodName)) ∈ lw_all := lw_g (lw_at lw_m5 216 rfl) rfl
theorem q1281 : (Jvm.Cond.methodLink "LandFolio$Reader" (230 : Nat) ({ cls := "LandFolio$Reader", name := "path", desc := "()V" } : Jvm.MethodName)) ∈ lw_all := lw_g (lw_at lw_m5 220 rfl) rfl
theorem q1282 : (Jvm.Cond.privateMethod ({ cls := "LandFolio$Reader", name := "path", desc := "()V" } : Jvm.MethodName)) ∈ lw_tbl := lw_at lw_m5 221 rfl
theorem q1283 : (Jvm.Cond.instanceMethod ({ cls := "LandFolio$Reader", name := "path", desc := "()V" } : Jvm.MethodName)) ∈ lw_all := lw_g (lw_at lw_m5 222 rfl) rfl
theorem q1284 : (Jvm.Cond.code ({ cls := "LandFolio$Reader", name := "path", desc := "()V" } : Jvm.MethodName) prog_12_method_16_code (5 : Nat) (Option.none : Option Jvm.ClassFile.FieldType)) ∈ lw_all := lw_g (lw_at lw_m5 223 rfl) rfl
theorem q1285 : (Jvm.Cond.stringRef "LandFolio$Reader" (191 : Nat) "path") ∈ lw_tbl := lw_at lw_m5 224 rfl
theorem q1286 : (Jvm.Cond.methodLink "LandFolio$Reader" (199 : Nat) ({ cls := "LandFolio$Parcel", name := "has", desc := "(II)Z" } : Jvm.MethodName)) ∈ lw_all := lw_g (lw_at lw_m5 225 rfl) rfl
theorem q1287 : (Jvm.Cond.methodLink "LandFolio$Reader" (202 : Nat) ({ cls := "LandFolio$Folio", name := "hasPath", desc := "(III)Z" } : Jvm.MethodName)) ∈ lw_all := lw_g (lw_at lw_m5 226 rfl) rfl
theorem q1295 : (Jvm.Cond.classLink "LandFolio$Reader" (205 : Nat) "LandFolio$Path") ∈ lw_all := lw_g (lw_at lw_m5 234 rfl) rfl
theorem q1296 : (Jvm.Cond.methodLink "LandFolio$Reader" (207 : Nat) ({ cls := "LandFolio$Path", name := "<init>", desc := "(IIII)V" } : Jvm.MethodName)) ∈ lw_all := lw_g (lw_at lw_m5 235 rfl) rfl
theorem q2626 : (Jvm.Cond.castable "LandFolio$Reader" "java/lang/Object") ∈ lw_tbl := lw_at lw_m11 125 rfl
theorem in_X5 : ∀ w ∈ wsX50, w ∈ lw_all := lw_in wsX50 [1013, 1015, 1017, 1019, 1021, 1023, 1025] (by decide +kernel) (by decide +kernel)
/-! LandFolio$Fault -/
set_option maxRecDepth 100000
def RX6 : String := "LandFolio$Fault"
def TX6 : u_T := fun k => match k with
  | 0 => ("java/lang/Throwable", "cause", "Ljava/lang/Throwable;", false)
  | 1 => ("java/lang/Throwable", "stackTrace", "[Ljava/lang/StackTraceElement;", false)
  | 2 => ("java/lang/Throwable", "suppressedExceptions", "Ljava/util/List;", false)
  | 3 => ("java/lang/Throwable", "detailMessage", "Ljava/lang/String;", false)
  | 4 => ("java/lang/Throwable", "backtrace", "Ljava/lang/Object;", false)
  | 5 => ("java/lang/Throwable", "depth", "I", false)
  | _ => ("LandFolio$Fault", "place", "I", true)
def tyX6 : Nat → FieldType := fun k => match k with
  | 0 => .object "java/lang/Throwable"
  | 1 => .array (.object "java/lang/StackTraceElement")
  | 2 => .object "java/util/List"
  | 3 => .object "java/lang/String"
  | 4 => .object "java/lang/Object"
  | 5 => .int
  | _ => .int
abbrev wsX60 : List Cond := u_ws RX6 TX6 7
theorem nmX6 : ∀ a, a < 7 → ∀ b, b < 7 → a ≠ b → (TX6 a).2.1 ≠ (TX6 b).2.1 := by decide +kernel
theorem tyX6_ok : ∀ k, k < 7 → parseFieldDescriptor (TX6 k).2.2.1 = some (tyX6 k) := by decide +kernel
abbrev cX6_init : ByteArray := prog_8_method_1_code
def yX6_init : MethodName := ⟨RX6, "<init>", "(I)V"⟩
def dkwX6_init_0 : List UInt8 := [42, 1, 1, 3, 3, 183, 0, 1, 42, 27, 181, 0, 7, 177]
abbrev dktX6_init_0 : List UInt8 := dkwX6_init_0 ++ []
theorem dksX6_init_0 : cX6_init.data.toList.drop 0 = dktX6_init_0 := by decide +kernel
theorem dX6_init_0 : decode cX6_init 0 = .ok (.aload_n 0, 1) := dk_42 (dk_at dksX6_init_0 0 rfl rfl)
theorem dX6_init_1 : decode cX6_init 1 = .ok (.aconst_null, 1) := dk_1 (dk_at dksX6_init_0 1 rfl rfl)
theorem dX6_init_2 : decode cX6_init 2 = .ok (.aconst_null, 1) := dk_1 (dk_at dksX6_init_0 2 rfl rfl)
theorem dX6_init_3 : decode cX6_init 3 = .ok (.iconst 0, 1) := dk_3 (dk_at dksX6_init_0 3 rfl rfl)
theorem dX6_init_4 : decode cX6_init 4 = .ok (.iconst 0, 1) := dk_3 (dk_at dksX6_init_0 4 rfl rfl)
theorem dX6_init_5 : decode cX6_init 5 = .ok (.invokespecial 1, 3) := dk_183 0 1 (dk_at dksX6_init_0 5 rfl rfl)
theorem dX6_init_8 : decode cX6_init 8 = .ok (.aload_n 0, 1) := dk_42 (dk_at dksX6_init_0 8 rfl rfl)
theorem dX6_init_9 : decode cX6_init 9 = .ok (.iload_n 1, 1) := dk_27 (dk_at dksX6_init_0 9 rfl rfl)
theorem dX6_init_10 : decode cX6_init 10 = .ok (.putfield 7, 3) := dk_181 0 7 (dk_at dksX6_init_0 10 rfl rfl)
theorem dX6_init_13 : decode cX6_init 13 = .ok (.return_, 1) := dk_177 (dk_at dksX6_init_0 13 rfl rfl)
theorem q124 : (Jvm.Cond.initialized "LandFolio$Fault") ∈ lw_all := lw_g (lw_at lw_m1 23 rfl) rfl
theorem q263 : (Jvm.Cond.selects "LandFolio$Fault" ({ cls := "java/lang/Object", name := "getClass", desc := "()Ljava/lang/Class;" } : Jvm.MethodName) ({ cls := "java/lang/Object", name := "getClass", desc := "()Ljava/lang/Class;" } : Jvm.MethodName)) ∈ lw_all := lw_g (lw_at lw_m1 162 rfl) rfl
theorem q1043 : (Jvm.Cond.instantiable "LandFolio$Fault" (7 : Nat)) ∈ lw_all := lw_g (lw_at lw_m4 222 rfl) rfl
theorem q1044 : (Jvm.Cond.castable "LandFolio$Fault" "LandFolio$Fault") ∈ lw_tbl := lw_at lw_m4 223 rfl
theorem q1049 : (Jvm.Cond.selects "LandFolio$Fault" ({ cls := "java/lang/Throwable", name := "fillInStackTrace", desc := "(I)Ljava/lang/Throwable;" } : Jvm.MethodName) ({ cls := "java/lang/Throwable", name := "fillInStackTrace", desc := "(I)Ljava/lang/Throwable;" } : Jvm.MethodName)) ∈ lw_all := lw_g (lw_at lw_m4 228 rfl) rfl
theorem q1050 : (Jvm.Cond.selects "LandFolio$Fault" ({ cls := "java/lang/Throwable", name := "fillInStackTrace", desc := "()Ljava/lang/Throwable;" } : Jvm.MethodName) ({ cls := "java/lang/Throwable", name := "fillInStackTrace", desc := "()Ljava/lang/Throwable;" } : Jvm.MethodName)) ∈ lw_all := lw_g (lw_at lw_m4 229 rfl) rfl
theorem q1051 : (Jvm.Cond.lays "LandFolio$Fault" "java/lang/Throwable" "cause" "Ljava/lang/Throwable;") ∈ lw_all := lw_g (lw_at lw_m4 230 rfl) rfl
theorem q1053 : (Jvm.Cond.lays "LandFolio$Fault" "java/lang/Throwable" "stackTrace" "[Ljava/lang/StackTraceElement;") ∈ lw_all := lw_g (lw_at lw_m4 232 rfl) rfl
theorem q1055 : (Jvm.Cond.lays "LandFolio$Fault" "java/lang/Throwable" "suppressedExceptions" "Ljava/util/List;") ∈ lw_all := lw_g (lw_at lw_m4 234 rfl) rfl
theorem q1057 : (Jvm.Cond.lays "LandFolio$Fault" "java/lang/Throwable" "detailMessage" "Ljava/lang/String;") ∈ lw_all := lw_g (lw_at lw_m4 236 rfl) rfl
theorem q1059 : (Jvm.Cond.lays "LandFolio$Fault" "java/lang/Throwable" "backtrace" "Ljava/lang/Object;") ∈ lw_all := lw_g (lw_at lw_m4 238 rfl) rfl
theorem q1081 : (Jvm.Cond.instanceMethod ({ cls := "LandFolio$Fault", name := "<init>", desc := "(I)V" } : Jvm.MethodName)) ∈ lw_all := lw_g (lw_at lw_m5 20 rfl) rfl
theorem q1082 : (Jvm.Cond.code ({ cls := "LandFolio$Fault", name := "<init>", desc := "(I)V" } : Jvm.MethodName) prog_8_method_1_code (2 : Nat) (Option.none : Option Jvm.ClassFile.FieldType)) ∈ lw_all := lw_g (lw_at lw_m5 21 rfl) rfl
theorem q1083 : (Jvm.Cond.methodLink "LandFolio$Fault" (1 : Nat) ({ cls := "java/lang/Exception", name := "<init>", desc := "(Ljava/lang/String;Ljava/lang/Throwable;ZZ)V" } : Jvm.MethodName)) ∈ lw_all := lw_g (lw_at lw_m5 22 rfl) rfl
theorem q1089 : (Jvm.Cond.fieldLink "LandFolio$Fault" (7 : Nat) "LandFolio$Fault" "place" "I") ∈ lw_all := lw_g (lw_at lw_m5 28 rfl) rfl
theorem q1096 : (Jvm.Cond.laysFinal "LandFolio$Fault" "LandFolio$Fault" "place" "I") ∈ lw_all := lw_g (lw_at lw_m5 35 rfl) rfl
theorem q1097 : (Jvm.Cond.soleField "LandFolio$Fault" "place") ∈ lw_all := lw_g (lw_at lw_m5 36 rfl) rfl
theorem q1102 : (Jvm.Cond.lays "LandFolio$Fault" "java/lang/Throwable" "depth" "I") ∈ lw_all := lw_g (lw_at lw_m5 41 rfl) rfl
theorem q1105 : (Jvm.Cond.superclass "LandFolio$Fault" "java/lang/Exception") ∈ lw_all := lw_g (lw_at lw_m5 44 rfl) rfl
theorem q1144 : (Jvm.Cond.selects "LandFolio$Fault" ({ cls := "java/lang/Object", name := "equals", desc := "(Ljava/lang/Object;)Z" } : Jvm.MethodName) ({ cls := "java/lang/Object", name := "equals", desc := "(Ljava/lang/Object;)Z" } : Jvm.MethodName)) ∈ lw_all := lw_g (lw_at lw_m5 83 rfl) rfl
theorem q2630 : (Jvm.Cond.castable "LandFolio$Fault" "java/lang/Object") ∈ lw_tbl := lw_at lw_m11 129 rfl
theorem in_X6 : ∀ w ∈ wsX60, w ∈ lw_all := lw_in wsX60 [1051, 1053, 1055, 1057, 1059, 1102, 1096] (by decide +kernel) (by decide +kernel)
/-! LandFolio$Burden -/
set_option maxRecDepth 100000
def RX7 : String := "LandFolio$Burden"
abbrev cX7_copied : ByteArray := prog_2_method_3_code
def yX7_copied : MethodName := ⟨RX7, "copied", "()LLandFolio$Burden;"⟩
def dkwX7_copied_1 : List UInt8 := [43, 176]
abbrev dktX7_copied_1 : List UInt8 := dkwX7_copied_1 ++ []
def dkwX7_copied_0 : List UInt8 := [42, 182, 0, 26, 76, 43, 42, 180, 0, 23, 181, 0, 23, 43, 180, 0, 10, 42, 180, 0, 10, 182, 0, 30]
abbrev dktX7_copied_0 : List UInt8 := dkwX7_copied_0 ++ dktX7_copied_1
theorem dksX7_copied_0 : cX7_copied.data.toList.drop 0 = dktX7_copied_0 := by decide +kernel
theorem dksX7_copied_1 : cX7_copied.data.toList.drop 24 = dktX7_copied_1 := dk_seg dksX7_copied_0 24 rfl rfl
theorem dX7_copied_0 : decode cX7_copied 0 = .ok (.aload_n 0, 1) := dk_42 (dk_at dksX7_copied_0 0 rfl rfl)
theorem dX7_copied_1 : decode cX7_copied 1 = .ok (.invokevirtual 26, 3) := dk_182 0 26 (dk_at dksX7_copied_0 1 rfl rfl)
theorem dX7_copied_4 : decode cX7_copied 4 = .ok (.astore_n 1, 1) := dk_76 (dk_at dksX7_copied_0 4 rfl rfl)
theorem dX7_copied_5 : decode cX7_copied 5 = .ok (.aload_n 1, 1) := dk_43 (dk_at dksX7_copied_0 5 rfl rfl)
theorem dX7_copied_6 : decode cX7_copied 6 = .ok (.aload_n 0, 1) := dk_42 (dk_at dksX7_copied_0 6 rfl rfl)
theorem dX7_copied_7 : decode cX7_copied 7 = .ok (.getfield 23, 3) := dk_180 0 23 (dk_at dksX7_copied_0 7 rfl rfl)
theorem dX7_copied_10 : decode cX7_copied 10 = .ok (.putfield 23, 3) := dk_181 0 23 (dk_at dksX7_copied_0 10 rfl rfl)
theorem dX7_copied_13 : decode cX7_copied 13 = .ok (.aload_n 1, 1) := dk_43 (dk_at dksX7_copied_0 13 rfl rfl)
theorem dX7_copied_14 : decode cX7_copied 14 = .ok (.getfield 10, 3) := dk_180 0 10 (dk_at dksX7_copied_0 14 rfl rfl)
theorem dX7_copied_17 : decode cX7_copied 17 = .ok (.aload_n 0, 1) := dk_42 (dk_at dksX7_copied_0 17 rfl rfl)
theorem dX7_copied_18 : decode cX7_copied 18 = .ok (.getfield 10, 3) := dk_180 0 10 (dk_at dksX7_copied_0 18 rfl rfl)
theorem dX7_copied_21 : decode cX7_copied 21 = .ok (.invokevirtual 30, 3) := dk_182 0 30 (dk_at dksX7_copied_0 21 rfl rfl)
theorem dX7_copied_24 : decode cX7_copied 24 = .ok (.aload_n 1, 1) := dk_43 (dk_at dksX7_copied_1 0 rfl rfl)
theorem dX7_copied_25 : decode cX7_copied 25 = .ok (.areturn, 1) := dk_176 (dk_at dksX7_copied_1 1 rfl rfl)
abbrev cX7_number : ByteArray := prog_2_method_6_code
def yX7_number : MethodName := ⟨RX7, "number", "()I"⟩
theorem dX7_number_0 : decode cX7_number 0 = .ok (.aload_n 0, 1) := by decide +kernel
theorem dX7_number_1 : decode cX7_number 1 = .ok (.getfield 16, 3) := by decide +kernel
theorem dX7_number_4 : decode cX7_number 4 = .ok (.ireturn, 1) := by decide +kernel
abbrev cX7_came : ByteArray := prog_2_method_7_code
def yX7_came : MethodName := ⟨RX7, "came", "()I"⟩
theorem dX7_came_0 : decode cX7_came 0 = .ok (.aload_n 0, 1) := by decide +kernel
theorem dX7_came_1 : decode cX7_came 1 = .ok (.getfield 20, 3) := by decide +kernel
theorem dX7_came_4 : decode cX7_came 4 = .ok (.ireturn, 1) := by decide +kernel
abbrev cX7_init : ByteArray := prog_2_method_1_code
def yX7_init : MethodName := ⟨RX7, "<init>", "(II)V"⟩
def dkwX7_init_1 : List UInt8 := [181, 0, 20, 42, 27, 181, 0, 23, 177]
abbrev dktX7_init_1 : List UInt8 := dkwX7_init_1 ++ []
def dkwX7_init_0 : List UInt8 := [42, 183, 0, 1, 42, 187, 0, 7, 89, 183, 0, 9, 181, 0, 10, 42, 27, 181, 0, 16, 42, 28]
abbrev dktX7_init_0 : List UInt8 := dkwX7_init_0 ++ dktX7_init_1
theorem dksX7_init_0 : cX7_init.data.toList.drop 0 = dktX7_init_0 := by decide +kernel
theorem dksX7_init_1 : cX7_init.data.toList.drop 22 = dktX7_init_1 := dk_seg dksX7_init_0 22 rfl rfl
theorem dX7_init_0 : decode cX7_init 0 = .ok (.aload_n 0, 1) := dk_42 (dk_at dksX7_init_0 0 rfl rfl)
theorem dX7_init_1 : decode cX7_init 1 = .ok (.invokespecial 1, 3) := dk_183 0 1 (dk_at dksX7_init_0 1 rfl rfl)
theorem dX7_init_4 : decode cX7_init 4 = .ok (.aload_n 0, 1) := dk_42 (dk_at dksX7_init_0 4 rfl rfl)
theorem dX7_init_5 : decode cX7_init 5 = .ok (.new 7, 3) := dk_187 0 7 (dk_at dksX7_init_0 5 rfl rfl)
theorem dX7_init_8 : decode cX7_init 8 = .ok (.dup, 1) := dk_89 (dk_at dksX7_init_0 8 rfl rfl)
theorem dX7_init_9 : decode cX7_init 9 = .ok (.invokespecial 9, 3) := dk_183 0 9 (dk_at dksX7_init_0 9 rfl rfl)
theorem dX7_init_12 : decode cX7_init 12 = .ok (.putfield 10, 3) := dk_181 0 10 (dk_at dksX7_init_0 12 rfl rfl)
theorem dX7_init_15 : decode cX7_init 15 = .ok (.aload_n 0, 1) := dk_42 (dk_at dksX7_init_0 15 rfl rfl)
theorem dX7_init_16 : decode cX7_init 16 = .ok (.iload_n 1, 1) := dk_27 (dk_at dksX7_init_0 16 rfl rfl)
theorem dX7_init_17 : decode cX7_init 17 = .ok (.putfield 16, 3) := dk_181 0 16 (dk_at dksX7_init_0 17 rfl rfl)
theorem dX7_init_20 : decode cX7_init 20 = .ok (.aload_n 0, 1) := dk_42 (dk_at dksX7_init_0 20 rfl rfl)
theorem dX7_init_21 : decode cX7_init 21 = .ok (.iload_n 2, 1) := dk_28 (dk_at dksX7_init_0 21 rfl rfl)
theorem dX7_init_22 : decode cX7_init 22 = .ok (.putfield 20, 3) := dk_181 0 20 (dk_at dksX7_init_1 0 rfl rfl)
theorem dX7_init_25 : decode cX7_init 25 = .ok (.aload_n 0, 1) := dk_42 (dk_at dksX7_init_1 3 rfl rfl)
theorem dX7_init_26 : decode cX7_init 26 = .ok (.iload_n 1, 1) := dk_27 (dk_at dksX7_init_1 4 rfl rfl)
theorem dX7_init_27 : decode cX7_init 27 = .ok (.putfield 23, 3) := dk_181 0 23 (dk_at dksX7_init_1 5 rfl rfl)
theorem dX7_init_30 : decode cX7_init 30 = .ok (.return_, 1) := dk_177 (dk_at dksX7_init_1 8 rfl rfl)
abbrev cX7_isOn : ByteArray := prog_2_method_4_code
def yX7_isOn : MethodName := ⟨RX7, "isOn", "(I)Z"⟩
def dkwX7_isOn_0 : List UInt8 := [42, 180, 0, 10, 27, 182, 0, 34, 172]
abbrev dktX7_isOn_0 : List UInt8 := dkwX7_isOn_0 ++ []
theorem dksX7_isOn_0 : cX7_isOn.data.toList.drop 0 = dktX7_isOn_0 := by decide +kernel
theorem dX7_isOn_0 : decode cX7_isOn 0 = .ok (.aload_n 0, 1) := dk_42 (dk_at dksX7_isOn_0 0 rfl rfl)
theorem dX7_isOn_1 : decode cX7_isOn 1 = .ok (.getfield 10, 3) := dk_180 0 10 (dk_at dksX7_isOn_0 1 rfl rfl)
theorem dX7_isOn_4 : decode cX7_isOn 4 = .ok (.iload_n 1, 1) := dk_27 (dk_at dksX7_isOn_0 4 rfl rfl)
theorem dX7_isOn_5 : decode cX7_isOn 5 = .ok (.invokevirtual 34, 3) := dk_182 0 34 (dk_at dksX7_isOn_0 5 rfl rfl)
theorem dX7_isOn_8 : decode cX7_isOn 8 = .ok (.ireturn, 1) := dk_172 (dk_at dksX7_isOn_0 8 rfl rfl)
abbrev cX7_isEnded : ByteArray := prog_2_method_5_code
def yX7_isEnded : MethodName := ⟨RX7, "isEnded", "()Z"⟩
def dkwX7_isEnded_0 : List UInt8 := [42, 180, 0, 10, 182, 0, 38, 172]
abbrev dktX7_isEnded_0 : List UInt8 := dkwX7_isEnded_0 ++ []
theorem dksX7_isEnded_0 : cX7_isEnded.data.toList.drop 0 = dktX7_isEnded_0 := by decide +kernel
theorem dX7_isEnded_0 : decode cX7_isEnded 0 = .ok (.aload_n 0, 1) := dk_42 (dk_at dksX7_isEnded_0 0 rfl rfl)
theorem dX7_isEnded_1 : decode cX7_isEnded 1 = .ok (.getfield 10, 3) := dk_180 0 10 (dk_at dksX7_isEnded_0 1 rfl rfl)
theorem dX7_isEnded_4 : decode cX7_isEnded 4 = .ok (.invokevirtual 38, 3) := dk_182 0 38 (dk_at dksX7_isEnded_0 4 rfl rfl)
theorem dX7_isEnded_7 : decode cX7_isEnded 7 = .ok (.ireturn, 1) := dk_172 (dk_at dksX7_isEnded_0 7 rfl rfl)
theorem q127 : (Jvm.Cond.initialized "LandFolio$Burden") ∈ lw_all := lw_g (lw_at lw_m1 26 rfl) rfl
theorem q531 : (Jvm.Cond.instanceMethod ({ cls := "LandFolio$Burden", name := "copied", desc := "()LLandFolio$Burden;" } : Jvm.MethodName)) ∈ lw_all := lw_g (lw_at lw_m2 190 rfl) rfl
theorem q532 : (Jvm.Cond.sameMethod "LandFolio$Burden" "LandFolio$Burden" "copied" "()LLandFolio$Burden;") ∈ lw_all := lw_g (lw_at lw_m2 191 rfl) rfl
theorem q535 : (Jvm.Cond.code ({ cls := "LandFolio$Burden", name := "copied", desc := "()LLandFolio$Burden;" } : Jvm.MethodName) prog_2_method_3_code (2 : Nat) (Option.some (Jvm.ClassFile.FieldType.object "LandFolio$Burden"))) ∈ lw_all := lw_g (lw_at lw_m2 194 rfl) rfl
theorem q536 : (Jvm.Cond.methodLink "LandFolio$Burden" (26 : Nat) ({ cls := "LandFolio$Burden", name := "anew", desc := "()LLandFolio$Burden;" } : Jvm.MethodName)) ∈ lw_all := lw_g (lw_at lw_m2 195 rfl) rfl
theorem q537 : (Jvm.Cond.declares ({ cls := "LandFolio$Burden", name := "anew", desc := "()LLandFolio$Burden;" } : Jvm.MethodName)) ∈ lw_tbl := lw_at lw_m2 196 rfl
theorem q538 : (Jvm.Cond.sameMethod "LandFolio$Burden" "LandFolio$Burden" "anew" "()LLandFolio$Burden;") ∈ lw_all := lw_g (lw_at lw_m2 197 rfl) rfl
theorem q546 : (Jvm.Cond.declares ({ cls := "LandFolio$Burden", name := "number", desc := "()I" } : Jvm.MethodName)) ∈ lw_tbl := lw_at lw_m2 205 rfl
theorem q548 : (Jvm.Cond.instanceMethod ({ cls := "LandFolio$Burden", name := "number", desc := "()I" } : Jvm.MethodName)) ∈ lw_all := lw_g (lw_at lw_m2 207 rfl) rfl
theorem q549 : (Jvm.Cond.code ({ cls := "LandFolio$Burden", name := "number", desc := "()I" } : Jvm.MethodName) prog_2_method_6_code (1 : Nat) (Option.some Jvm.ClassFile.FieldType.int)) ∈ lw_all := lw_g (lw_at lw_m2 208 rfl) rfl
theorem q552 : (Jvm.Cond.declares ({ cls := "LandFolio$Burden", name := "came", desc := "()I" } : Jvm.MethodName)) ∈ lw_tbl := lw_at lw_m2 211 rfl
theorem q554 : (Jvm.Cond.instanceMethod ({ cls := "LandFolio$Burden", name := "came", desc := "()I" } : Jvm.MethodName)) ∈ lw_all := lw_g (lw_at lw_m2 213 rfl) rfl
theorem q555 : (Jvm.Cond.code ({ cls := "LandFolio$Burden", name := "came", desc := "()I" } : Jvm.MethodName) prog_2_method_7_code (1 : Nat) (Option.some Jvm.ClassFile.FieldType.int)) ∈ lw_all := lw_g (lw_at lw_m2 214 rfl) rfl
theorem q560 : (Jvm.Cond.instanceMethod ({ cls := "LandFolio$Burden", name := "<init>", desc := "(II)V" } : Jvm.MethodName)) ∈ lw_all := lw_g (lw_at lw_m2 219 rfl) rfl
theorem q561 : (Jvm.Cond.code ({ cls := "LandFolio$Burden", name := "<init>", desc := "(II)V" } : Jvm.MethodName) prog_2_method_1_code (3 : Nat) (Option.none : Option Jvm.ClassFile.FieldType)) ∈ lw_all := lw_g (lw_at lw_m2 220 rfl) rfl
theorem q562 : (Jvm.Cond.methodLink "LandFolio$Burden" (1 : Nat) ({ cls := "java/lang/Object", name := "<init>", desc := "()V" } : Jvm.MethodName)) ∈ lw_all := lw_g (lw_at lw_m2 221 rfl) rfl
theorem q563 : (Jvm.Cond.classLink "LandFolio$Burden" (7 : Nat) "java/util/BitSet") ∈ lw_all := lw_g (lw_at lw_m2 222 rfl) rfl
theorem q565 : (Jvm.Cond.methodLink "LandFolio$Burden" (9 : Nat) ({ cls := "java/util/BitSet", name := "<init>", desc := "()V" } : Jvm.MethodName)) ∈ lw_all := lw_g (lw_at lw_m2 224 rfl) rfl
theorem q592 : (Jvm.Cond.fieldLink "LandFolio$Burden" (16 : Nat) "LandFolio$Burden" "number" "I") ∈ lw_all := lw_g (lw_at lw_m3 11 rfl) rfl
theorem q593 : (Jvm.Cond.fieldLink "LandFolio$Burden" (20 : Nat) "LandFolio$Burden" "came" "I") ∈ lw_all := lw_g (lw_at lw_m3 12 rfl) rfl
theorem q594 : (Jvm.Cond.fieldLink "LandFolio$Burden" (23 : Nat) "LandFolio$Burden" "place" "I") ∈ lw_all := lw_g (lw_at lw_m3 13 rfl) rfl
theorem q599 : (Jvm.Cond.fieldLink "LandFolio$Burden" (10 : Nat) "LandFolio$Burden" "parcels" "Ljava/util/BitSet;") ∈ lw_all := lw_g (lw_at lw_m3 18 rfl) rfl
theorem q607 : (Jvm.Cond.soleField "LandFolio$Burden" "number") ∈ lw_all := lw_g (lw_at lw_m3 26 rfl) rfl
theorem q609 : (Jvm.Cond.soleField "LandFolio$Burden" "came") ∈ lw_all := lw_g (lw_at lw_m3 28 rfl) rfl
theorem q611 : (Jvm.Cond.soleField "LandFolio$Burden" "place") ∈ lw_all := lw_g (lw_at lw_m3 30 rfl) rfl
theorem q613 : (Jvm.Cond.soleField "LandFolio$Burden" "parcels") ∈ lw_all := lw_g (lw_at lw_m3 32 rfl) rfl
theorem q645 : (Jvm.Cond.methodLink "LandFolio$Burden" (30 : Nat) ({ cls := "java/util/BitSet", name := "or", desc := "(Ljava/util/BitSet;)V" } : Jvm.MethodName)) ∈ lw_all := lw_g (lw_at lw_m3 64 rfl) rfl
theorem q1207 : (Jvm.Cond.instanceMethod ({ cls := "LandFolio$Burden", name := "isOn", desc := "(I)Z" } : Jvm.MethodName)) ∈ lw_all := lw_g (lw_at lw_m5 146 rfl) rfl
theorem q1208 : (Jvm.Cond.sameMethod "LandFolio$Burden" "LandFolio$Burden" "isOn" "(I)Z") ∈ lw_all := lw_g (lw_at lw_m5 147 rfl) rfl
theorem q1211 : (Jvm.Cond.code ({ cls := "LandFolio$Burden", name := "isOn", desc := "(I)Z" } : Jvm.MethodName) prog_2_method_4_code (2 : Nat) (Option.some Jvm.ClassFile.FieldType.boolean)) ∈ lw_all := lw_g (lw_at lw_m5 150 rfl) rfl
theorem q1212 : (Jvm.Cond.methodLink "LandFolio$Burden" (34 : Nat) ({ cls := "java/util/BitSet", name := "get", desc := "(I)Z" } : Jvm.MethodName)) ∈ lw_all := lw_g (lw_at lw_m5 151 rfl) rfl
theorem q1293 : (Jvm.Cond.declares ({ cls := "LandFolio$Burden", name := "isOn", desc := "(I)Z" } : Jvm.MethodName)) ∈ lw_tbl := lw_at lw_m5 232 rfl
theorem q1499 : (Jvm.Cond.declares ({ cls := "LandFolio$Burden", name := "isEnded", desc := "()Z" } : Jvm.MethodName)) ∈ lw_tbl := lw_at lw_m6 198 rfl
theorem q1501 : (Jvm.Cond.instanceMethod ({ cls := "LandFolio$Burden", name := "isEnded", desc := "()Z" } : Jvm.MethodName)) ∈ lw_all := lw_g (lw_at lw_m6 200 rfl) rfl
theorem q1502 : (Jvm.Cond.code ({ cls := "LandFolio$Burden", name := "isEnded", desc := "()Z" } : Jvm.MethodName) prog_2_method_5_code (1 : Nat) (Option.some Jvm.ClassFile.FieldType.boolean)) ∈ lw_all := lw_g (lw_at lw_m6 201 rfl) rfl
theorem q1503 : (Jvm.Cond.methodLink "LandFolio$Burden" (38 : Nat) ({ cls := "java/util/BitSet", name := "isEmpty", desc := "()Z" } : Jvm.MethodName)) ∈ lw_all := lw_g (lw_at lw_m6 202 rfl) rfl
theorem q2600 : (Jvm.Cond.sameMethod "LandFolio$Burden" "LandFolio$Burden" "isEnded" "()Z") ∈ lw_all := lw_g (lw_at lw_m11 99 rfl) rfl
theorem q2603 : (Jvm.Cond.sameMethod "LandFolio$Burden" "LandFolio$Burden" "came" "()I") ∈ lw_all := lw_g (lw_at lw_m11 102 rfl) rfl
theorem q2606 : (Jvm.Cond.sameMethod "LandFolio$Burden" "LandFolio$Burden" "number" "()I") ∈ lw_all := lw_g (lw_at lw_m11 105 rfl) rfl
/-! LandFolio$Debt -/
set_option maxRecDepth 100000
def RX8 : String := "LandFolio$Debt"
def TX8 : u_T := fun k => match k with
  | 0 => ("LandFolio$Burden", "number", "I", true)
  | 1 => ("LandFolio$Burden", "came", "I", true)
  | 2 => ("LandFolio$Burden", "place", "I", false)
  | 3 => ("LandFolio$Burden", "parcels", "Ljava/util/BitSet;", true)
  | 4 => ("LandFolio$Debt", "holder", "I", true)
  | _ => ("LandFolio$Debt", "amount", "I", false)
def tyX8 : Nat → FieldType := fun k => match k with
  | 0 => .int
  | 1 => .int
  | 2 => .int
  | 3 => .object "java/util/BitSet"
  | 4 => .int
  | _ => .int
abbrev wsX80 : List Cond := u_ws RX8 TX8 6
theorem nmX8 : ∀ a, a < 6 → ∀ b, b < 6 → a ≠ b → (TX8 a).2.1 ≠ (TX8 b).2.1 := by decide +kernel
theorem tyX8_ok : ∀ k, k < 6 → parseFieldDescriptor (TX8 k).2.2.1 = some (tyX8 k) := by decide +kernel
abbrev cX8_anew : ByteArray := prog_5_method_2_code
def yX8_anew : MethodName := ⟨RX8, "anew", "()LLandFolio$Burden;"⟩
def dkwX8_anew_0 : List UInt8 := [187, 0, 8, 89, 42, 182, 0, 16, 42, 182, 0, 20, 42, 180, 0, 7, 42, 180, 0, 13, 183, 0, 23, 176]
abbrev dktX8_anew_0 : List UInt8 := dkwX8_anew_0 ++ []
theorem dksX8_anew_0 : cX8_anew.data.toList.drop 0 = dktX8_anew_0 := by decide +kernel
theorem dX8_anew_0 : decode cX8_anew 0 = .ok (.new 8, 3) := dk_187 0 8 (dk_at dksX8_anew_0 0 rfl rfl)
theorem dX8_anew_3 : decode cX8_anew 3 = .ok (.dup, 1) := dk_89 (dk_at dksX8_anew_0 3 rfl rfl)
theorem dX8_anew_4 : decode cX8_anew 4 = .ok (.aload_n 0, 1) := dk_42 (dk_at dksX8_anew_0 4 rfl rfl)
theorem dX8_anew_5 : decode cX8_anew 5 = .ok (.invokevirtual 16, 3) := dk_182 0 16 (dk_at dksX8_anew_0 5 rfl rfl)
theorem dX8_anew_8 : decode cX8_anew 8 = .ok (.aload_n 0, 1) := dk_42 (dk_at dksX8_anew_0 8 rfl rfl)
theorem dX8_anew_9 : decode cX8_anew 9 = .ok (.invokevirtual 20, 3) := dk_182 0 20 (dk_at dksX8_anew_0 9 rfl rfl)
theorem dX8_anew_12 : decode cX8_anew 12 = .ok (.aload_n 0, 1) := dk_42 (dk_at dksX8_anew_0 12 rfl rfl)
theorem dX8_anew_13 : decode cX8_anew 13 = .ok (.getfield 7, 3) := dk_180 0 7 (dk_at dksX8_anew_0 13 rfl rfl)
theorem dX8_anew_16 : decode cX8_anew 16 = .ok (.aload_n 0, 1) := dk_42 (dk_at dksX8_anew_0 16 rfl rfl)
theorem dX8_anew_17 : decode cX8_anew 17 = .ok (.getfield 13, 3) := dk_180 0 13 (dk_at dksX8_anew_0 17 rfl rfl)
theorem dX8_anew_20 : decode cX8_anew 20 = .ok (.invokespecial 23, 3) := dk_183 0 23 (dk_at dksX8_anew_0 20 rfl rfl)
theorem dX8_anew_23 : decode cX8_anew 23 = .ok (.areturn, 1) := dk_176 (dk_at dksX8_anew_0 23 rfl rfl)
abbrev cX8_init : ByteArray := prog_5_method_1_code
def yX8_init : MethodName := ⟨RX8, "<init>", "(IIII)V"⟩
def dkwX8_init_0 : List UInt8 := [42, 27, 28, 183, 0, 1, 42, 29, 181, 0, 7, 42, 21, 4, 181, 0, 13, 177]
abbrev dktX8_init_0 : List UInt8 := dkwX8_init_0 ++ []
theorem dksX8_init_0 : cX8_init.data.toList.drop 0 = dktX8_init_0 := by decide +kernel
theorem dX8_init_0 : decode cX8_init 0 = .ok (.aload_n 0, 1) := dk_42 (dk_at dksX8_init_0 0 rfl rfl)
theorem dX8_init_1 : decode cX8_init 1 = .ok (.iload_n 1, 1) := dk_27 (dk_at dksX8_init_0 1 rfl rfl)
theorem dX8_init_2 : decode cX8_init 2 = .ok (.iload_n 2, 1) := dk_28 (dk_at dksX8_init_0 2 rfl rfl)
theorem dX8_init_3 : decode cX8_init 3 = .ok (.invokespecial 1, 3) := dk_183 0 1 (dk_at dksX8_init_0 3 rfl rfl)
theorem dX8_init_6 : decode cX8_init 6 = .ok (.aload_n 0, 1) := dk_42 (dk_at dksX8_init_0 6 rfl rfl)
theorem dX8_init_7 : decode cX8_init 7 = .ok (.iload_n 3, 1) := dk_29 (dk_at dksX8_init_0 7 rfl rfl)
theorem dX8_init_8 : decode cX8_init 8 = .ok (.putfield 7, 3) := dk_181 0 7 (dk_at dksX8_init_0 8 rfl rfl)
theorem dX8_init_11 : decode cX8_init 11 = .ok (.aload_n 0, 1) := dk_42 (dk_at dksX8_init_0 11 rfl rfl)
theorem dX8_init_12 : decode cX8_init 12 = .ok (.iload 4, 2) := dk_21 4 (dk_at dksX8_init_0 12 rfl rfl)
theorem dX8_init_14 : decode cX8_init 14 = .ok (.putfield 13, 3) := dk_181 0 13 (dk_at dksX8_init_0 14 rfl rfl)
theorem dX8_init_17 : decode cX8_init 17 = .ok (.return_, 1) := dk_177 (dk_at dksX8_init_0 17 rfl rfl)
theorem q128 : (Jvm.Cond.initialized "LandFolio$Debt") ∈ lw_all := lw_g (lw_at lw_m1 27 rfl) rfl
theorem q260 : (Jvm.Cond.selects "LandFolio$Debt" ({ cls := "java/lang/Object", name := "getClass", desc := "()Ljava/lang/Class;" } : Jvm.MethodName) ({ cls := "java/lang/Object", name := "getClass", desc := "()Ljava/lang/Class;" } : Jvm.MethodName)) ∈ lw_all := lw_g (lw_at lw_m1 159 rfl) rfl
theorem q533 : (Jvm.Cond.selects "LandFolio$Debt" ({ cls := "LandFolio$Burden", name := "copied", desc := "()LLandFolio$Burden;" } : Jvm.MethodName) ({ cls := "LandFolio$Burden", name := "copied", desc := "()LLandFolio$Burden;" } : Jvm.MethodName)) ∈ lw_all := lw_g (lw_at lw_m2 192 rfl) rfl
theorem q539 : (Jvm.Cond.selects "LandFolio$Debt" ({ cls := "LandFolio$Burden", name := "anew", desc := "()LLandFolio$Burden;" } : Jvm.MethodName) ({ cls := "LandFolio$Debt", name := "anew", desc := "()LLandFolio$Burden;" } : Jvm.MethodName)) ∈ lw_all := lw_g (lw_at lw_m2 198 rfl) rfl
theorem q540 : (Jvm.Cond.instanceMethod ({ cls := "LandFolio$Debt", name := "anew", desc := "()LLandFolio$Burden;" } : Jvm.MethodName)) ∈ lw_all := lw_g (lw_at lw_m2 199 rfl) rfl
theorem q541 : (Jvm.Cond.code ({ cls := "LandFolio$Debt", name := "anew", desc := "()LLandFolio$Burden;" } : Jvm.MethodName) prog_5_method_2_code (1 : Nat) (Option.some (Jvm.ClassFile.FieldType.object "LandFolio$Burden"))) ∈ lw_all := lw_g (lw_at lw_m2 200 rfl) rfl
theorem q542 : (Jvm.Cond.classLink "LandFolio$Debt" (8 : Nat) "LandFolio$Debt") ∈ lw_all := lw_g (lw_at lw_m2 201 rfl) rfl
theorem q543 : (Jvm.Cond.instantiable "LandFolio$Debt" (6 : Nat)) ∈ lw_all := lw_g (lw_at lw_m2 202 rfl) rfl
theorem q544 : (Jvm.Cond.methodLink "LandFolio$Debt" (16 : Nat) ({ cls := "LandFolio$Debt", name := "number", desc := "()I" } : Jvm.MethodName)) ∈ lw_all := lw_g (lw_at lw_m2 203 rfl) rfl
theorem q545 : (Jvm.Cond.sameMethod "LandFolio$Debt" "LandFolio$Burden" "number" "()I") ∈ lw_all := lw_g (lw_at lw_m2 204 rfl) rfl
theorem q547 : (Jvm.Cond.selects "LandFolio$Debt" ({ cls := "LandFolio$Debt", name := "number", desc := "()I" } : Jvm.MethodName) ({ cls := "LandFolio$Burden", name := "number", desc := "()I" } : Jvm.MethodName)) ∈ lw_all := lw_g (lw_at lw_m2 206 rfl) rfl
theorem q550 : (Jvm.Cond.methodLink "LandFolio$Debt" (20 : Nat) ({ cls := "LandFolio$Debt", name := "came", desc := "()I" } : Jvm.MethodName)) ∈ lw_all := lw_g (lw_at lw_m2 209 rfl) rfl
theorem q551 : (Jvm.Cond.sameMethod "LandFolio$Debt" "LandFolio$Burden" "came" "()I") ∈ lw_all := lw_g (lw_at lw_m2 210 rfl) rfl
theorem q553 : (Jvm.Cond.selects "LandFolio$Debt" ({ cls := "LandFolio$Debt", name := "came", desc := "()I" } : Jvm.MethodName) ({ cls := "LandFolio$Burden", name := "came", desc := "()I" } : Jvm.MethodName)) ∈ lw_all := lw_g (lw_at lw_m2 212 rfl) rfl
theorem q556 : (Jvm.Cond.methodLink "LandFolio$Debt" (23 : Nat) ({ cls := "LandFolio$Debt", name := "<init>", desc := "(IIII)V" } : Jvm.MethodName)) ∈ lw_all := lw_g (lw_at lw_m2 215 rfl) rfl
theorem q557 : (Jvm.Cond.instanceMethod ({ cls := "LandFolio$Debt", name := "<init>", desc := "(IIII)V" } : Jvm.MethodName)) ∈ lw_all := lw_g (lw_at lw_m2 216 rfl) rfl
theorem q558 : (Jvm.Cond.code ({ cls := "LandFolio$Debt", name := "<init>", desc := "(IIII)V" } : Jvm.MethodName) prog_5_method_1_code (5 : Nat) (Option.none : Option Jvm.ClassFile.FieldType)) ∈ lw_all := lw_g (lw_at lw_m2 217 rfl) rfl
theorem q559 : (Jvm.Cond.methodLink "LandFolio$Debt" (1 : Nat) ({ cls := "LandFolio$Burden", name := "<init>", desc := "(II)V" } : Jvm.MethodName)) ∈ lw_all := lw_g (lw_at lw_m2 218 rfl) rfl
theorem q587 : (Jvm.Cond.fieldLink "LandFolio$Debt" (7 : Nat) "LandFolio$Debt" "holder" "I") ∈ lw_all := lw_g (lw_at lw_m3 6 rfl) rfl
theorem q589 : (Jvm.Cond.fieldLink "LandFolio$Debt" (13 : Nat) "LandFolio$Debt" "amount" "I") ∈ lw_all := lw_g (lw_at lw_m3 8 rfl) rfl
theorem q602 : (Jvm.Cond.laysFinal "LandFolio$Debt" "LandFolio$Debt" "holder" "I") ∈ lw_all := lw_g (lw_at lw_m3 21 rfl) rfl
theorem q603 : (Jvm.Cond.soleField "LandFolio$Debt" "holder") ∈ lw_all := lw_g (lw_at lw_m3 22 rfl) rfl
theorem q604 : (Jvm.Cond.lays "LandFolio$Debt" "LandFolio$Debt" "amount" "I") ∈ lw_all := lw_g (lw_at lw_m3 23 rfl) rfl
theorem q605 : (Jvm.Cond.soleField "LandFolio$Debt" "amount") ∈ lw_all := lw_g (lw_at lw_m3 24 rfl) rfl
theorem q606 : (Jvm.Cond.laysFinal "LandFolio$Debt" "LandFolio$Burden" "number" "I") ∈ lw_all := lw_g (lw_at lw_m3 25 rfl) rfl
theorem q608 : (Jvm.Cond.laysFinal "LandFolio$Debt" "LandFolio$Burden" "came" "I") ∈ lw_all := lw_g (lw_at lw_m3 27 rfl) rfl
theorem q610 : (Jvm.Cond.lays "LandFolio$Debt" "LandFolio$Burden" "place" "I") ∈ lw_all := lw_g (lw_at lw_m3 29 rfl) rfl
theorem q612 : (Jvm.Cond.laysFinal "LandFolio$Debt" "LandFolio$Burden" "parcels" "Ljava/util/BitSet;") ∈ lw_all := lw_g (lw_at lw_m3 31 rfl) rfl
theorem q614 : (Jvm.Cond.superclass "LandFolio$Debt" "LandFolio$Burden") ∈ lw_all := lw_g (lw_at lw_m3 33 rfl) rfl
theorem q1141 : (Jvm.Cond.selects "LandFolio$Debt" ({ cls := "java/lang/Object", name := "equals", desc := "(Ljava/lang/Object;)Z" } : Jvm.MethodName) ({ cls := "java/lang/Object", name := "equals", desc := "(Ljava/lang/Object;)Z" } : Jvm.MethodName)) ∈ lw_all := lw_g (lw_at lw_m5 80 rfl) rfl
theorem q1209 : (Jvm.Cond.selects "LandFolio$Debt" ({ cls := "LandFolio$Burden", name := "isOn", desc := "(I)Z" } : Jvm.MethodName) ({ cls := "LandFolio$Burden", name := "isOn", desc := "(I)Z" } : Jvm.MethodName)) ∈ lw_all := lw_g (lw_at lw_m5 148 rfl) rfl
theorem q1498 : (Jvm.Cond.sameMethod "LandFolio$Debt" "LandFolio$Burden" "isEnded" "()Z") ∈ lw_all := lw_g (lw_at lw_m6 197 rfl) rfl
theorem q1500 : (Jvm.Cond.selects "LandFolio$Debt" ({ cls := "LandFolio$Debt", name := "isEnded", desc := "()Z" } : Jvm.MethodName) ({ cls := "LandFolio$Burden", name := "isEnded", desc := "()Z" } : Jvm.MethodName)) ∈ lw_all := lw_g (lw_at lw_m6 199 rfl) rfl
theorem q1555 : (Jvm.Cond.sameMethod "LandFolio$Debt" "LandFolio$Burden" "isOn" "(I)Z") ∈ lw_all := lw_g (lw_at lw_m7 14 rfl) rfl
theorem q1556 : (Jvm.Cond.selects "LandFolio$Debt" ({ cls := "LandFolio$Debt", name := "isOn", desc := "(I)Z" } : Jvm.MethodName) ({ cls := "LandFolio$Burden", name := "isOn", desc := "(I)Z" } : Jvm.MethodName)) ∈ lw_all := lw_g (lw_at lw_m7 15 rfl) rfl
theorem q2601 : (Jvm.Cond.selects "LandFolio$Debt" ({ cls := "LandFolio$Burden", name := "isEnded", desc := "()Z" } : Jvm.MethodName) ({ cls := "LandFolio$Burden", name := "isEnded", desc := "()Z" } : Jvm.MethodName)) ∈ lw_all := lw_g (lw_at lw_m11 100 rfl) rfl
theorem q2604 : (Jvm.Cond.selects "LandFolio$Debt" ({ cls := "LandFolio$Burden", name := "came", desc := "()I" } : Jvm.MethodName) ({ cls := "LandFolio$Burden", name := "came", desc := "()I" } : Jvm.MethodName)) ∈ lw_all := lw_g (lw_at lw_m11 103 rfl) rfl
theorem q2607 : (Jvm.Cond.selects "LandFolio$Debt" ({ cls := "LandFolio$Burden", name := "number", desc := "()I" } : Jvm.MethodName) ({ cls := "LandFolio$Burden", name := "number", desc := "()I" } : Jvm.MethodName)) ∈ lw_all := lw_g (lw_at lw_m11 106 rfl) rfl
theorem q2616 : (Jvm.Cond.castable "LandFolio$Debt" "LandFolio$Burden") ∈ lw_tbl := lw_at lw_m11 115 rfl
theorem q2631 : (Jvm.Cond.castable "LandFolio$Debt" "java/lang/Object") ∈ lw_tbl := lw_at lw_m11 130 rfl
theorem in_X8 : ∀ w ∈ wsX80, w ∈ lw_all := lw_in wsX80 [606, 608, 610, 612, 602, 604] (by decide +kernel) (by decide +kernel)
/-! LandFolio$Path -/
set_option maxRecDepth 100000
def RX9 : String := "LandFolio$Path"
def TX9 : u_T := fun k => match k with
  | 0 => ("LandFolio$Burden", "number", "I", true)
  | 1 => ("LandFolio$Burden", "came", "I", true)
  | 2 => ("LandFolio$Burden", "place", "I", false)
  | 3 => ("LandFolio$Burden", "parcels", "Ljava/util/BitSet;", true)
  | 4 => ("LandFolio$Path", "x", "I", true)
  | _ => ("LandFolio$Path", "y", "I", true)
def tyX9 : Nat → FieldType := fun k => match k with
  | 0 => .int
  | 1 => .int
  | 2 => .int
  | 3 => .object "java/util/BitSet"
  | 4 => .int
  | _ => .int
abbrev wsX90 : List Cond := u_ws RX9 TX9 6
theorem nmX9 : ∀ a, a < 6 → ∀ b, b < 6 → a ≠ b → (TX9 a).2.1 ≠ (TX9 b).2.1 := by decide +kernel
theorem tyX9_ok : ∀ k, k < 6 → parseFieldDescriptor (TX9 k).2.2.1 = some (tyX9 k) := by decide +kernel
abbrev cX9_anew : ByteArray := prog_11_method_2_code
def yX9_anew : MethodName := ⟨RX9, "anew", "()LLandFolio$Burden;"⟩
def dkwX9_anew_0 : List UInt8 := [187, 0, 8, 89, 42, 182, 0, 16, 42, 182, 0, 20, 42, 180, 0, 7, 42, 180, 0, 13, 183, 0, 23, 176]
abbrev dktX9_anew_0 : List UInt8 := dkwX9_anew_0 ++ []
theorem dksX9_anew_0 : cX9_anew.data.toList.drop 0 = dktX9_anew_0 := by decide +kernel
theorem dX9_anew_0 : decode cX9_anew 0 = .ok (.new 8, 3) := dk_187 0 8 (dk_at dksX9_anew_0 0 rfl rfl)
theorem dX9_anew_3 : decode cX9_anew 3 = .ok (.dup, 1) := dk_89 (dk_at dksX9_anew_0 3 rfl rfl)
theorem dX9_anew_4 : decode cX9_anew 4 = .ok (.aload_n 0, 1) := dk_42 (dk_at dksX9_anew_0 4 rfl rfl)
theorem dX9_anew_5 : decode cX9_anew 5 = .ok (.invokevirtual 16, 3) := dk_182 0 16 (dk_at dksX9_anew_0 5 rfl rfl)
theorem dX9_anew_8 : decode cX9_anew 8 = .ok (.aload_n 0, 1) := dk_42 (dk_at dksX9_anew_0 8 rfl rfl)
theorem dX9_anew_9 : decode cX9_anew 9 = .ok (.invokevirtual 20, 3) := dk_182 0 20 (dk_at dksX9_anew_0 9 rfl rfl)
theorem dX9_anew_12 : decode cX9_anew 12 = .ok (.aload_n 0, 1) := dk_42 (dk_at dksX9_anew_0 12 rfl rfl)
theorem dX9_anew_13 : decode cX9_anew 13 = .ok (.getfield 7, 3) := dk_180 0 7 (dk_at dksX9_anew_0 13 rfl rfl)
theorem dX9_anew_16 : decode cX9_anew 16 = .ok (.aload_n 0, 1) := dk_42 (dk_at dksX9_anew_0 16 rfl rfl)
theorem dX9_anew_17 : decode cX9_anew 17 = .ok (.getfield 13, 3) := dk_180 0 13 (dk_at dksX9_anew_0 17 rfl rfl)
theorem dX9_anew_20 : decode cX9_anew 20 = .ok (.invokespecial 23, 3) := dk_183 0 23 (dk_at dksX9_anew_0 20 rfl rfl)
theorem dX9_anew_23 : decode cX9_anew 23 = .ok (.areturn, 1) := dk_176 (dk_at dksX9_anew_0 23 rfl rfl)
abbrev cX9_init : ByteArray := prog_11_method_1_code
def yX9_init : MethodName := ⟨RX9, "<init>", "(IIII)V"⟩
def dkwX9_init_0 : List UInt8 := [42, 27, 28, 183, 0, 1, 42, 29, 181, 0, 7, 42, 21, 4, 181, 0, 13, 177]
abbrev dktX9_init_0 : List UInt8 := dkwX9_init_0 ++ []
theorem dksX9_init_0 : cX9_init.data.toList.drop 0 = dktX9_init_0 := by decide +kernel
theorem dX9_init_0 : decode cX9_init 0 = .ok (.aload_n 0, 1) := dk_42 (dk_at dksX9_init_0 0 rfl rfl)
theorem dX9_init_1 : decode cX9_init 1 = .ok (.iload_n 1, 1) := dk_27 (dk_at dksX9_init_0 1 rfl rfl)
theorem dX9_init_2 : decode cX9_init 2 = .ok (.iload_n 2, 1) := dk_28 (dk_at dksX9_init_0 2 rfl rfl)
theorem dX9_init_3 : decode cX9_init 3 = .ok (.invokespecial 1, 3) := dk_183 0 1 (dk_at dksX9_init_0 3 rfl rfl)
theorem dX9_init_6 : decode cX9_init 6 = .ok (.aload_n 0, 1) := dk_42 (dk_at dksX9_init_0 6 rfl rfl)
theorem dX9_init_7 : decode cX9_init 7 = .ok (.iload_n 3, 1) := dk_29 (dk_at dksX9_init_0 7 rfl rfl)
theorem dX9_init_8 : decode cX9_init 8 = .ok (.putfield 7, 3) := dk_181 0 7 (dk_at dksX9_init_0 8 rfl rfl)
theorem dX9_init_11 : decode cX9_init 11 = .ok (.aload_n 0, 1) := dk_42 (dk_at dksX9_init_0 11 rfl rfl)
theorem dX9_init_12 : decode cX9_init 12 = .ok (.iload 4, 2) := dk_21 4 (dk_at dksX9_init_0 12 rfl rfl)
theorem dX9_init_14 : decode cX9_init 14 = .ok (.putfield 13, 3) := dk_181 0 13 (dk_at dksX9_init_0 14 rfl rfl)
theorem dX9_init_17 : decode cX9_init 17 = .ok (.return_, 1) := dk_177 (dk_at dksX9_init_0 17 rfl rfl)
theorem q129 : (Jvm.Cond.initialized "LandFolio$Path") ∈ lw_all := lw_g (lw_at lw_m1 28 rfl) rfl
theorem q266 : (Jvm.Cond.selects "LandFolio$Path" ({ cls := "java/lang/Object", name := "getClass", desc := "()Ljava/lang/Class;" } : Jvm.MethodName) ({ cls := "java/lang/Object", name := "getClass", desc := "()Ljava/lang/Class;" } : Jvm.MethodName)) ∈ lw_all := lw_g (lw_at lw_m1 165 rfl) rfl
theorem q534 : (Jvm.Cond.selects "LandFolio$Path" ({ cls := "LandFolio$Burden", name := "copied", desc := "()LLandFolio$Burden;" } : Jvm.MethodName) ({ cls := "LandFolio$Burden", name := "copied", desc := "()LLandFolio$Burden;" } : Jvm.MethodName)) ∈ lw_all := lw_g (lw_at lw_m2 193 rfl) rfl
theorem q615 : (Jvm.Cond.selects "LandFolio$Path" ({ cls := "LandFolio$Burden", name := "anew", desc := "()LLandFolio$Burden;" } : Jvm.MethodName) ({ cls := "LandFolio$Path", name := "anew", desc := "()LLandFolio$Burden;" } : Jvm.MethodName)) ∈ lw_all := lw_g (lw_at lw_m3 34 rfl) rfl
theorem q616 : (Jvm.Cond.instanceMethod ({ cls := "LandFolio$Path", name := "anew", desc := "()LLandFolio$Burden;" } : Jvm.MethodName)) ∈ lw_all := lw_g (lw_at lw_m3 35 rfl) rfl
theorem q617 : (Jvm.Cond.code ({ cls := "LandFolio$Path", name := "anew", desc := "()LLandFolio$Burden;" } : Jvm.MethodName) prog_11_method_2_code (1 : Nat) (Option.some (Jvm.ClassFile.FieldType.object "LandFolio$Burden"))) ∈ lw_all := lw_g (lw_at lw_m3 36 rfl) rfl
theorem q618 : (Jvm.Cond.classLink "LandFolio$Path" (8 : Nat) "LandFolio$Path") ∈ lw_all := lw_g (lw_at lw_m3 37 rfl) rfl
theorem q619 : (Jvm.Cond.instantiable "LandFolio$Path" (6 : Nat)) ∈ lw_all := lw_g (lw_at lw_m3 38 rfl) rfl
theorem q620 : (Jvm.Cond.methodLink "LandFolio$Path" (16 : Nat) ({ cls := "LandFolio$Path", name := "number", desc := "()I" } : Jvm.MethodName)) ∈ lw_all := lw_g (lw_at lw_m3 39 rfl) rfl
theorem q621 : (Jvm.Cond.sameMethod "LandFolio$Path" "LandFolio$Burden" "number" "()I") ∈ lw_all := lw_g (lw_at lw_m3 40 rfl) rfl
theorem q622 : (Jvm.Cond.selects "LandFolio$Path" ({ cls := "LandFolio$Path", name := "number", desc := "()I" } : Jvm.MethodName) ({ cls := "LandFolio$Burden", name := "number", desc := "()I" } : Jvm.MethodName)) ∈ lw_all := lw_g (lw_at lw_m3 41 rfl) rfl
theorem q623 : (Jvm.Cond.methodLink "LandFolio$Path" (20 : Nat) ({ cls := "LandFolio$Path", name := "came", desc := "()I" } : Jvm.MethodName)) ∈ lw_all := lw_g (lw_at lw_m3 42 rfl) rfl
theorem q624 : (Jvm.Cond.sameMethod "LandFolio$Path" "LandFolio$Burden" "came" "()I") ∈ lw_all := lw_g (lw_at lw_m3 43 rfl) rfl
theorem q625 : (Jvm.Cond.selects "LandFolio$Path" ({ cls := "LandFolio$Path", name := "came", desc := "()I" } : Jvm.MethodName) ({ cls := "LandFolio$Burden", name := "came", desc := "()I" } : Jvm.MethodName)) ∈ lw_all := lw_g (lw_at lw_m3 44 rfl) rfl
theorem q626 : (Jvm.Cond.methodLink "LandFolio$Path" (23 : Nat) ({ cls := "LandFolio$Path", name := "<init>", desc := "(IIII)V" } : Jvm.MethodName)) ∈ lw_all := lw_g (lw_at lw_m3 45 rfl) rfl
theorem q627 : (Jvm.Cond.instanceMethod ({ cls := "LandFolio$Path", name := "<init>", desc := "(IIII)V" } : Jvm.MethodName)) ∈ lw_all := lw_g (lw_at lw_m3 46 rfl) rfl
theorem q628 : (Jvm.Cond.code ({ cls := "LandFolio$Path", name := "<init>", desc := "(IIII)V" } : Jvm.MethodName) prog_11_method_1_code (5 : Nat) (Option.none : Option Jvm.ClassFile.FieldType)) ∈ lw_all := lw_g (lw_at lw_m3 47 rfl) rfl
theorem q629 : (Jvm.Cond.methodLink "LandFolio$Path" (1 : Nat) ({ cls := "LandFolio$Burden", name := "<init>", desc := "(II)V" } : Jvm.MethodName)) ∈ lw_all := lw_g (lw_at lw_m3 48 rfl) rfl
theorem q630 : (Jvm.Cond.fieldLink "LandFolio$Path" (7 : Nat) "LandFolio$Path" "x" "I") ∈ lw_all := lw_g (lw_at lw_m3 49 rfl) rfl
theorem q633 : (Jvm.Cond.fieldLink "LandFolio$Path" (13 : Nat) "LandFolio$Path" "y" "I") ∈ lw_all := lw_g (lw_at lw_m3 52 rfl) rfl
theorem q636 : (Jvm.Cond.laysFinal "LandFolio$Path" "LandFolio$Path" "x" "I") ∈ lw_all := lw_g (lw_at lw_m3 55 rfl) rfl
theorem q637 : (Jvm.Cond.soleField "LandFolio$Path" "x") ∈ lw_all := lw_g (lw_at lw_m3 56 rfl) rfl
theorem q638 : (Jvm.Cond.laysFinal "LandFolio$Path" "LandFolio$Path" "y" "I") ∈ lw_all := lw_g (lw_at lw_m3 57 rfl) rfl
theorem q639 : (Jvm.Cond.soleField "LandFolio$Path" "y") ∈ lw_all := lw_g (lw_at lw_m3 58 rfl) rfl
theorem q640 : (Jvm.Cond.laysFinal "LandFolio$Path" "LandFolio$Burden" "number" "I") ∈ lw_all := lw_g (lw_at lw_m3 59 rfl) rfl
theorem q641 : (Jvm.Cond.laysFinal "LandFolio$Path" "LandFolio$Burden" "came" "I") ∈ lw_all := lw_g (lw_at lw_m3 60 rfl) rfl
theorem q642 : (Jvm.Cond.lays "LandFolio$Path" "LandFolio$Burden" "place" "I") ∈ lw_all := lw_g (lw_at lw_m3 61 rfl) rfl
theorem q643 : (Jvm.Cond.laysFinal "LandFolio$Path" "LandFolio$Burden" "parcels" "Ljava/util/BitSet;") ∈ lw_all := lw_g (lw_at lw_m3 62 rfl) rfl
theorem q644 : (Jvm.Cond.superclass "LandFolio$Path" "LandFolio$Burden") ∈ lw_all := lw_g (lw_at lw_m3 63 rfl) rfl
theorem q1147 : (Jvm.Cond.selects "LandFolio$Path" ({ cls := "java/lang/Object", name := "equals", desc := "(Ljava/lang/Object;)Z" } : Jvm.MethodName) ({ cls := "java/lang/Object", name := "equals", desc := "(Ljava/lang/Object;)Z" } : Jvm.MethodName)) ∈ lw_all := lw_g (lw_at lw_m5 86 rfl) rfl
theorem q1210 : (Jvm.Cond.selects "LandFolio$Path" ({ cls := "LandFolio$Burden", name := "isOn", desc := "(I)Z" } : Jvm.MethodName) ({ cls := "LandFolio$Burden", name := "isOn", desc := "(I)Z" } : Jvm.MethodName)) ∈ lw_all := lw_g (lw_at lw_m5 149 rfl) rfl
theorem q1292 : (Jvm.Cond.sameMethod "LandFolio$Path" "LandFolio$Burden" "isOn" "(I)Z") ∈ lw_all := lw_g (lw_at lw_m5 231 rfl) rfl
theorem q1294 : (Jvm.Cond.selects "LandFolio$Path" ({ cls := "LandFolio$Path", name := "isOn", desc := "(I)Z" } : Jvm.MethodName) ({ cls := "LandFolio$Burden", name := "isOn", desc := "(I)Z" } : Jvm.MethodName)) ∈ lw_all := lw_g (lw_at lw_m5 233 rfl) rfl
theorem q2602 : (Jvm.Cond.selects "LandFolio$Path" ({ cls := "LandFolio$Burden", name := "isEnded", desc := "()Z" } : Jvm.MethodName) ({ cls := "LandFolio$Burden", name := "isEnded", desc := "()Z" } : Jvm.MethodName)) ∈ lw_all := lw_g (lw_at lw_m11 101 rfl) rfl
theorem q2605 : (Jvm.Cond.selects "LandFolio$Path" ({ cls := "LandFolio$Burden", name := "came", desc := "()I" } : Jvm.MethodName) ({ cls := "LandFolio$Burden", name := "came", desc := "()I" } : Jvm.MethodName)) ∈ lw_all := lw_g (lw_at lw_m11 104 rfl) rfl
theorem q2608 : (Jvm.Cond.selects "LandFolio$Path" ({ cls := "LandFolio$Burden", name := "number", desc := "()I" } : Jvm.MethodName) ({ cls := "LandFolio$Burden", name := "number", desc := "()I" } : Jvm.MethodName)) ∈ lw_all := lw_g (lw_at lw_m11 107 rfl) rfl
theorem q2617 : (Jvm.Cond.castable "LandFolio$Path" "LandFolio$Burden") ∈ lw_tbl := lw_at lw_m11 116 rfl
theorem q2633 : (Jvm.Cond.castable "LandFolio$Path" "java/lang/Object") ∈ lw_tbl := lw_at lw_m11 132 rfl
theorem in_X9 : ∀ w ∈ wsX90, w ∈ lw_all := lw_in wsX90 [640, 641, 642, 643, 636, 638] (by decide +kernel) (by decide +kernel)
/-! LandFolio$Entry -/
set_option maxRecDepth 100000
def RX10 : String := "LandFolio$Entry"
def TX10 : u_T := fun k => match k with
  | 0 => ("LandFolio$Entry", "kind", "I", true)
  | 1 => ("LandFolio$Entry", "first", "I", true)
  | _ => ("LandFolio$Entry", "second", "I", true)
def tyX10 : Nat → FieldType := fun k => match k with
  | 0 => .int
  | 1 => .int
  | _ => .int
abbrev wsX100 : List Cond := u_ws RX10 TX10 3
theorem nmX10 : ∀ a, a < 3 → ∀ b, b < 3 → a ≠ b → (TX10 a).2.1 ≠ (TX10 b).2.1 := by decide +kernel
theorem tyX10_ok : ∀ k, k < 3 → parseFieldDescriptor (TX10 k).2.2.1 = some (tyX10 k) := by decide +kernel
abbrev cX10_init : ByteArray := prog_7_method_1_code
def yX10_init : MethodName := ⟨RX10, "<init>", "(III)V"⟩
def dkwX10_init_0 : List UInt8 := [42, 183, 0, 1, 42, 27, 181, 0, 7, 42, 28, 181, 0, 13, 42, 29, 181, 0, 16, 177]
abbrev dktX10_init_0 : List UInt8 := dkwX10_init_0 ++ []
theorem dksX10_init_0 : cX10_init.data.toList.drop 0 = dktX10_init_0 := by decide +kernel
theorem dX10_init_0 : decode cX10_init 0 = .ok (.aload_n 0, 1) := dk_42 (dk_at dksX10_init_0 0 rfl rfl)
theorem dX10_init_1 : decode cX10_init 1 = .ok (.invokespecial 1, 3) := dk_183 0 1 (dk_at dksX10_init_0 1 rfl rfl)
theorem dX10_init_4 : decode cX10_init 4 = .ok (.aload_n 0, 1) := dk_42 (dk_at dksX10_init_0 4 rfl rfl)
theorem dX10_init_5 : decode cX10_init 5 = .ok (.iload_n 1, 1) := dk_27 (dk_at dksX10_init_0 5 rfl rfl)
theorem dX10_init_6 : decode cX10_init 6 = .ok (.putfield 7, 3) := dk_181 0 7 (dk_at dksX10_init_0 6 rfl rfl)
theorem dX10_init_9 : decode cX10_init 9 = .ok (.aload_n 0, 1) := dk_42 (dk_at dksX10_init_0 9 rfl rfl)
theorem dX10_init_10 : decode cX10_init 10 = .ok (.iload_n 2, 1) := dk_28 (dk_at dksX10_init_0 10 rfl rfl)
theorem dX10_init_11 : decode cX10_init 11 = .ok (.putfield 13, 3) := dk_181 0 13 (dk_at dksX10_init_0 11 rfl rfl)
theorem dX10_init_14 : decode cX10_init 14 = .ok (.aload_n 0, 1) := dk_42 (dk_at dksX10_init_0 14 rfl rfl)
theorem dX10_init_15 : decode cX10_init 15 = .ok (.iload_n 3, 1) := dk_29 (dk_at dksX10_init_0 15 rfl rfl)
theorem dX10_init_16 : decode cX10_init 16 = .ok (.putfield 16, 3) := dk_181 0 16 (dk_at dksX10_init_0 16 rfl rfl)
theorem dX10_init_19 : decode cX10_init 19 = .ok (.return_, 1) := dk_177 (dk_at dksX10_init_0 19 rfl rfl)
abbrev cX10_part : ByteArray := prog_7_method_2_code
def yX10_part : MethodName := ⟨RX10, "part", "(I)I"⟩
def dkwX10_part_1 : List UInt8 := [180, 0, 16, 172]
abbrev dktX10_part_1 : List UInt8 := dkwX10_part_1 ++ []
def dkwX10_part_0 : List UInt8 := [27, 154, 0, 10, 42, 180, 0, 7, 167, 0, 19, 27, 4, 160, 0, 10, 42, 180, 0, 13, 167, 0, 7, 42]
abbrev dktX10_part_0 : List UInt8 := dkwX10_part_0 ++ dktX10_part_1
theorem dksX10_part_0 : cX10_part.data.toList.drop 0 = dktX10_part_0 := by decide +kernel
theorem dksX10_part_1 : cX10_part.data.toList.drop 24 = dktX10_part_1 := dk_seg dksX10_part_0 24 rfl rfl
theorem dX10_part_0 : decode cX10_part 0 = .ok (.iload_n 1, 1) := dk_27 (dk_at dksX10_part_0 0 rfl rfl)
theorem dX10_part_1 : decode cX10_part 1 = .ok (.ifCond .ne 10, 3) := dk_154 0 10 (dk_at dksX10_part_0 1 rfl rfl)
theorem dX10_part_4 : decode cX10_part 4 = .ok (.aload_n 0, 1) := dk_42 (dk_at dksX10_part_0 4 rfl rfl)
theorem dX10_part_5 : decode cX10_part 5 = .ok (.getfield 7, 3) := dk_180 0 7 (dk_at dksX10_part_0 5 rfl rfl)
theorem dX10_part_8 : decode cX10_part 8 = .ok (.goto 19, 3) := dk_167 0 19 (dk_at dksX10_part_0 8 rfl rfl)
theorem dX10_part_11 : decode cX10_part 11 = .ok (.iload_n 1, 1) := dk_27 (dk_at dksX10_part_0 11 rfl rfl)
theorem dX10_part_12 : decode cX10_part 12 = .ok (.iconst 1, 1) := dk_4 (dk_at dksX10_part_0 12 rfl rfl)
theorem dX10_part_13 : decode cX10_part 13 = .ok (.if_icmp .ne 10, 3) := dk_160 0 10 (dk_at dksX10_part_0 13 rfl rfl)
theorem dX10_part_16 : decode cX10_part 16 = .ok (.aload_n 0, 1) := dk_42 (dk_at dksX10_part_0 16 rfl rfl)
theorem dX10_part_17 : decode cX10_part 17 = .ok (.getfield 13, 3) := dk_180 0 13 (dk_at dksX10_part_0 17 rfl rfl)
theorem dX10_part_20 : decode cX10_part 20 = .ok (.goto 7, 3) := dk_167 0 7 (dk_at dksX10_part_0 20 rfl rfl)
theorem dX10_part_23 : decode cX10_part 23 = .ok (.aload_n 0, 1) := dk_42 (dk_at dksX10_part_0 23 rfl rfl)
theorem dX10_part_24 : decode cX10_part 24 = .ok (.getfield 16, 3) := dk_180 0 16 (dk_at dksX10_part_1 0 rfl rfl)
theorem dX10_part_27 : decode cX10_part 27 = .ok (.ireturn, 1) := dk_172 (dk_at dksX10_part_1 3 rfl rfl)
theorem q130 : (Jvm.Cond.initialized "LandFolio$Entry") ∈ lw_all := lw_g (lw_at lw_m1 29 rfl) rfl
theorem q262 : (Jvm.Cond.selects "LandFolio$Entry" ({ cls := "java/lang/Object", name := "getClass", desc := "()Ljava/lang/Class;" } : Jvm.MethodName) ({ cls := "java/lang/Object", name := "getClass", desc := "()Ljava/lang/Class;" } : Jvm.MethodName)) ∈ lw_all := lw_g (lw_at lw_m1 161 rfl) rfl
theorem q1143 : (Jvm.Cond.selects "LandFolio$Entry" ({ cls := "java/lang/Object", name := "equals", desc := "(Ljava/lang/Object;)Z" } : Jvm.MethodName) ({ cls := "java/lang/Object", name := "equals", desc := "(Ljava/lang/Object;)Z" } : Jvm.MethodName)) ∈ lw_all := lw_g (lw_at lw_m5 82 rfl) rfl
theorem q1331 : (Jvm.Cond.instantiable "LandFolio$Entry" (3 : Nat)) ∈ lw_all := lw_g (lw_at lw_m6 30 rfl) rfl
theorem q1333 : (Jvm.Cond.instanceMethod ({ cls := "LandFolio$Entry", name := "<init>", desc := "(III)V" } : Jvm.MethodName)) ∈ lw_all := lw_g (lw_at lw_m6 32 rfl) rfl
theorem q1334 : (Jvm.Cond.code ({ cls := "LandFolio$Entry", name := "<init>", desc := "(III)V" } : Jvm.MethodName) prog_7_method_1_code (4 : Nat) (Option.none : Option Jvm.ClassFile.FieldType)) ∈ lw_all := lw_g (lw_at lw_m6 33 rfl) rfl
theorem q1335 : (Jvm.Cond.methodLink "LandFolio$Entry" (1 : Nat) ({ cls := "java/lang/Object", name := "<init>", desc := "()V" } : Jvm.MethodName)) ∈ lw_all := lw_g (lw_at lw_m6 34 rfl) rfl
theorem q1336 : (Jvm.Cond.fieldLink "LandFolio$Entry" (7 : Nat) "LandFolio$Entry" "kind" "I") ∈ lw_all := lw_g (lw_at lw_m6 35 rfl) rfl
theorem q1337 : (Jvm.Cond.fieldLink "LandFolio$Entry" (13 : Nat) "LandFolio$Entry" "first" "I") ∈ lw_all := lw_g (lw_at lw_m6 36 rfl) rfl
theorem q1338 : (Jvm.Cond.fieldLink "LandFolio$Entry" (16 : Nat) "LandFolio$Entry" "second" "I") ∈ lw_all := lw_g (lw_at lw_m6 37 rfl) rfl
theorem q1339 : (Jvm.Cond.laysFinal "LandFolio$Entry" "LandFolio$Entry" "kind" "I") ∈ lw_all := lw_g (lw_at lw_m6 38 rfl) rfl
theorem q1340 : (Jvm.Cond.soleField "LandFolio$Entry" "kind") ∈ lw_all := lw_g (lw_at lw_m6 39 rfl) rfl
theorem q1341 : (Jvm.Cond.laysFinal "LandFolio$Entry" "LandFolio$Entry" "first" "I") ∈ lw_all := lw_g (lw_at lw_m6 40 rfl) rfl
theorem q1342 : (Jvm.Cond.soleField "LandFolio$Entry" "first") ∈ lw_all := lw_g (lw_at lw_m6 41 rfl) rfl
theorem q1343 : (Jvm.Cond.laysFinal "LandFolio$Entry" "LandFolio$Entry" "second" "I") ∈ lw_all := lw_g (lw_at lw_m6 42 rfl) rfl
theorem q1344 : (Jvm.Cond.soleField "LandFolio$Entry" "second") ∈ lw_all := lw_g (lw_at lw_m6 43 rfl) rfl
theorem q1345 : (Jvm.Cond.superclass "LandFolio$Entry" "java/lang/Object") ∈ lw_all := lw_g (lw_at lw_m6 44 rfl) rfl
theorem q1871 : (Jvm.Cond.instanceMethod ({ cls := "LandFolio$Entry", name := "part", desc := "(I)I" } : Jvm.MethodName)) ∈ lw_all := lw_g (lw_at lw_m8 90 rfl) rfl
theorem q1872 : (Jvm.Cond.selects "LandFolio$Entry" ({ cls := "LandFolio$Entry", name := "part", desc := "(I)I" } : Jvm.MethodName) ({ cls := "LandFolio$Entry", name := "part", desc := "(I)I" } : Jvm.MethodName)) ∈ lw_all := lw_g (lw_at lw_m8 91 rfl) rfl
theorem q1873 : (Jvm.Cond.code ({ cls := "LandFolio$Entry", name := "part", desc := "(I)I" } : Jvm.MethodName) prog_7_method_2_code (2 : Nat) (Option.some Jvm.ClassFile.FieldType.int)) ∈ lw_all := lw_g (lw_at lw_m8 92 rfl) rfl
theorem q2634 : (Jvm.Cond.castable "LandFolio$Entry" "java/lang/Object") ∈ lw_tbl := lw_at lw_m11 133 rfl
theorem in_X10 : ∀ w ∈ wsX100, w ∈ lw_all := lw_in wsX100 [1339, 1341, 1343] (by decide +kernel) (by decide +kernel)
/-! LandFolio$Reason -/
set_option maxRecDepth 100000
def RX11 : String := "LandFolio$Reason"
abbrev cX11_values : ByteArray := prog_13_method_1_code
def yX11_values : MethodName := ⟨RX11, "values", "()[LLandFolio$Reason;"⟩
def dkwX11_values_0 : List UInt8 := [178, 0, 19, 182, 0, 23, 192, 0, 24, 176]
abbrev dktX11_values_0 : List UInt8 := dkwX11_values_0 ++ []
theorem dksX11_values_0 : cX11_values.data.toList.drop 0 = dktX11_values_0 := by decide +kernel
theorem dX11_values_0 : decode cX11_values 0 = .ok (.getstatic 19, 3) := dk_178 0 19 (dk_at dksX11_values_0 0 rfl rfl)
theorem dX11_values_3 : decode cX11_values 3 = .ok (.invokevirtual 23, 3) := dk_182 0 23 (dk_at dksX11_values_0 3 rfl rfl)
theorem dX11_values_6 : decode cX11_values 6 = .ok (.checkcast 24, 3) := dk_192 0 24 (dk_at dksX11_values_0 6 rfl rfl)
theorem dX11_values_9 : decode cX11_values 9 = .ok (.areturn, 1) := dk_176 (dk_at dksX11_values_0 9 rfl rfl)
theorem q132 : (Jvm.Cond.initialized "LandFolio$Reason") ∈ lw_all := lw_g (lw_at lw_m1 31 rfl) rfl
theorem q1389 : (Jvm.Cond.static ({ cls := "LandFolio$Reason", name := "values", desc := "()[LLandFolio$Reason;" } : Jvm.MethodName)) ∈ lw_all := lw_g (lw_at lw_m6 88 rfl) rfl
theorem q1390 : (Jvm.Cond.code ({ cls := "LandFolio$Reason", name := "values", desc := "()[LLandFolio$Reason;" } : Jvm.MethodName) prog_13_method_1_code (0 : Nat) (Option.some (Jvm.ClassFile.FieldType.array (Jvm.ClassFile.FieldType.object "LandFolio$Reason")))) ∈ lw_all := lw_g (lw_at lw_m6 89 rfl) rfl
theorem q1391 : (Jvm.Cond.fieldLink "LandFolio$Reason" (19 : Nat) "LandFolio$Reason" "$VALUES" "[LLandFolio$Reason;") ∈ lw_all := lw_g (lw_at lw_m6 90 rfl) rfl
theorem q1392 : (Jvm.Cond.laysStatic "LandFolio$Reason" "$VALUES" "[LLandFolio$Reason;") ∈ lw_tbl := lw_at lw_m6 91 rfl
theorem q1393 : (Jvm.Cond.methodLink "LandFolio$Reason" (23 : Nat) ({ cls := "[LLandFolio$Reason;", name := "clone", desc := "()Ljava/lang/Object;" } : Jvm.MethodName)) ∈ lw_all := lw_g (lw_at lw_m6 92 rfl) rfl
theorem q1398 : (Jvm.Cond.classLink "LandFolio$Reason" (24 : Nat) "[LLandFolio$Reason;") ∈ lw_all := lw_g (lw_at lw_m6 97 rfl) rfl
theorem q1400 : (Jvm.Cond.declares ({ cls := "LandFolio$Reason", name := "holds", desc := "(LLandFolio$Folio;II)Z" } : Jvm.MethodName)) ∈ lw_tbl := lw_at lw_m6 99 rfl
theorem q1401 : (Jvm.Cond.sameMethod "LandFolio$Reason" "LandFolio$Reason" "holds" "(LLandFolio$Folio;II)Z") ∈ lw_all := lw_g (lw_at lw_m6 100 rfl) rfl
theorem q1440 : (Jvm.Cond.sameMethod "LandFolio$Reason" "java/lang/Enum" "ordinal" "()I") ∈ lw_all := lw_g (lw_at lw_m6 139 rfl) rfl
theorem q2619 : (Jvm.Cond.castable "LandFolio$Reason" "java/lang/Object") ∈ lw_tbl := lw_at lw_m11 118 rfl
theorem q2662 : (Jvm.Cond.laysStatic "LandFolio$Reason" "NONE" "LLandFolio$Reason;") ∈ lw_tbl := lw_at lw_m11 161 rfl
theorem q2663 : (Jvm.Cond.laysStatic "LandFolio$Reason" "GONE" "LLandFolio$Reason;") ∈ lw_tbl := lw_at lw_m11 162 rfl
theorem q2664 : (Jvm.Cond.laysStatic "LandFolio$Reason" "BARRED" "LLandFolio$Reason;") ∈ lw_tbl := lw_at lw_m11 163 rfl
theorem q2665 : (Jvm.Cond.laysStatic "LandFolio$Reason" "APART" "LLandFolio$Reason;") ∈ lw_tbl := lw_at lw_m11 164 rfl
theorem q2666 : (Jvm.Cond.laysStatic "LandFolio$Reason" "SHARES" "LLandFolio$Reason;") ∈ lw_tbl := lw_at lw_m11 165 rfl
/-! LandFolio$ByRank -/
set_option maxRecDepth 100000
def RX12 : String := "LandFolio$ByRank"
def TX12 : u_T := fun k => match k with
  | 0 => ("LandFolio$ByRank", "folio", "LLandFolio$Folio;", true)
  | _ => ("LandFolio$ByRank", "parcel", "I", true)
def tyX12 : Nat → FieldType := fun k => match k with
  | 0 => .object "LandFolio$Folio"
  | _ => .int
abbrev wsX120 : List Cond := u_ws RX12 TX12 2
theorem nmX12 : ∀ a, a < 2 → ∀ b, b < 2 → a ≠ b → (TX12 a).2.1 ≠ (TX12 b).2.1 := by decide +kernel
theorem tyX12_ok : ∀ k, k < 2 → parseFieldDescriptor (TX12 k).2.2.1 = some (tyX12 k) := by decide +kernel
abbrev cX12_init : ByteArray := prog_3_method_1_code
def yX12_init : MethodName := ⟨RX12, "<init>", "(LLandFolio$Folio;I)V"⟩
def dkwX12_init_0 : List UInt8 := [42, 183, 0, 1, 42, 43, 181, 0, 7, 42, 28, 181, 0, 13, 177]
abbrev dktX12_init_0 : List UInt8 := dkwX12_init_0 ++ []
theorem dksX12_init_0 : cX12_init.data.toList.drop 0 = dktX12_init_0 := by decide +kernel
theorem dX12_init_0 : decode cX12_init 0 = .ok (.aload_n 0, 1) := dk_42 (dk_at dksX12_init_0 0 rfl rfl)
theorem dX12_init_1 : decode cX12_init 1 = .ok (.invokespecial 1, 3) := dk_183 0 1 (dk_at dksX12_init_0 1 rfl rfl)
theorem dX12_init_4 : decode cX12_init 4 = .ok (.aload_n 0, 1) := dk_42 (dk_at dksX12_init_0 4 rfl rfl)
theorem dX12_init_5 : decode cX12_init 5 = .ok (.aload_n 1, 1) := dk_43 (dk_at dksX12_init_0 5 rfl rfl)
theorem dX12_init_6 : decode cX12_init 6 = .ok (.putfield 7, 3) := dk_181 0 7 (dk_at dksX12_init_0 6 rfl rfl)
theorem dX12_init_9 : decode cX12_init 9 = .ok (.aload_n 0, 1) := dk_42 (dk_at dksX12_init_0 9 rfl rfl)
theorem dX12_init_10 : decode cX12_init 10 = .ok (.iload_n 2, 1) := dk_28 (dk_at dksX12_init_0 10 rfl rfl)
theorem dX12_init_11 : decode cX12_init 11 = .ok (.putfield 13, 3) := dk_181 0 13 (dk_at dksX12_init_0 11 rfl rfl)
theorem dX12_init_14 : decode cX12_init 14 = .ok (.return_, 1) := dk_177 (dk_at dksX12_init_0 14 rfl rfl)
abbrev cX12_iterator : ByteArray := prog_3_method_3_code
def yX12_iterator : MethodName := ⟨RX12, "iterator", "()Ljava/util/Iterator;"⟩
def dkwX12_iterator_0 : List UInt8 := [187, 0, 42, 89, 42, 183, 0, 44, 176]
abbrev dktX12_iterator_0 : List UInt8 := dkwX12_iterator_0 ++ []
theorem dksX12_iterator_0 : cX12_iterator.data.toList.drop 0 = dktX12_iterator_0 := by decide +kernel
theorem dX12_iterator_0 : decode cX12_iterator 0 = .ok (.new 42, 3) := dk_187 0 42 (dk_at dksX12_iterator_0 0 rfl rfl)
theorem dX12_iterator_3 : decode cX12_iterator 3 = .ok (.dup, 1) := dk_89 (dk_at dksX12_iterator_0 3 rfl rfl)
theorem dX12_iterator_4 : decode cX12_iterator 4 = .ok (.aload_n 0, 1) := dk_42 (dk_at dksX12_iterator_0 4 rfl rfl)
theorem dX12_iterator_5 : decode cX12_iterator 5 = .ok (.invokespecial 44, 3) := dk_183 0 44 (dk_at dksX12_iterator_0 5 rfl rfl)
theorem dX12_iterator_8 : decode cX12_iterator 8 = .ok (.areturn, 1) := dk_176 (dk_at dksX12_iterator_0 8 rfl rfl)
abbrev cX12_behind : ByteArray := prog_3_method_2_code
def yX12_behind : MethodName := ⟨RX12, "behind", "(I)LLandFolio$Burden;"⟩
def dkwX12_behind_3 : List UInt8 := [44, 180, 0, 39, 162, 0, 8, 25, 4, 167, 0, 4, 44, 77, 132, 3, 1, 167, 255, 173, 44, 176]
abbrev dktX12_behind_3 : List UInt8 := dkwX12_behind_3 ++ []
def dkwX12_behind_2 : List UInt8 := [164, 0, 7, 4, 167, 0, 4, 3, 54, 5, 21, 5, 153, 0, 24, 44, 198, 0, 15, 25, 4, 180, 0, 39]
abbrev dktX12_behind_2 : List UInt8 := dkwX12_behind_2 ++ dktX12_behind_3
def dkwX12_behind_1 : List UInt8 := [182, 0, 29, 58, 4, 25, 4, 42, 180, 0, 13, 182, 0, 33, 153, 0, 16, 25, 4, 180, 0, 39, 27]
abbrev dktX12_behind_1 : List UInt8 := dkwX12_behind_1 ++ dktX12_behind_2
def dkwX12_behind_0 : List UInt8 := [1, 77, 3, 62, 29, 42, 180, 0, 7, 180, 0, 17, 182, 0, 23, 162, 0, 75, 42, 180, 0, 7, 29]
abbrev dktX12_behind_0 : List UInt8 := dkwX12_behind_0 ++ dktX12_behind_1
theorem dksX12_behind_0 : cX12_behind.data.toList.drop 0 = dktX12_behind_0 := by decide +kernel
theorem dksX12_behind_1 : cX12_behind.data.toList.drop 23 = dktX12_behind_1 := dk_seg dksX12_behind_0 23 rfl rfl
theorem dksX12_behind_2 : cX12_behind.data.toList.drop 46 = dktX12_behind_2 := dk_seg dksX12_behind_1 23 rfl rfl
theorem dksX12_behind_3 : cX12_behind.data.toList.drop 70 = dktX12_behind_3 := dk_seg dksX12_behind_2 24 rfl rfl
theorem dX12_behind_0 : decode cX12_behind 0 = .ok (.aconst_null, 1) := dk_1 (dk_at dksX12_behind_0 0 rfl rfl)
theorem dX12_behind_1 : decode cX12_behind 1 = .ok (.astore_n 2, 1) := dk_77 (dk_at dksX12_behind_0 1 rfl rfl)
theorem dX12_behind_2 : decode cX12_behind 2 = .ok (.iconst 0, 1) := dk_3 (dk_at dksX12_behind_0 2 rfl rfl)
theorem dX12_behind_3 : decode cX12_behind 3 = .ok (.istore_n 3, 1) := dk_62 (dk_at dksX12_behind_0 3 rfl rfl)
theorem dX12_behind_4 : decode cX12_behind 4 = .ok (.iload_n 3, 1) := dk_29 (dk_at dksX12_behind_0 4 rfl rfl)
theorem dX12_behind_5 : decode cX12_behind 5 = .ok (.aload_n 0, 1) := dk_42 (dk_at dksX12_behind_0 5 rfl rfl)
theorem dX12_behind_6 : decode cX12_behind 6 = .ok (.getfield 7, 3) := dk_180 0 7 (dk_at dksX12_behind_0 6 rfl rfl)
theorem dX12_behind_9 : decode cX12_behind 9 = .ok (.getfield 17, 3) := dk_180 0 17 (dk_at dksX12_behind_0 9 rfl rfl)
theorem dX12_behind_12 : decode cX12_behind 12 = .ok (.invokevirtual 23, 3) := dk_182 0 23 (dk_at dksX12_behind_0 12 rfl rfl)
theorem dX12_behind_15 : decode cX12_behind 15 = .ok (.if_icmp .ge 75, 3) := dk_162 0 75 (dk_at dksX12_behind_0 15 rfl rfl)
theorem dX12_behind_18 : decode cX12_behind 18 = .ok (.aload_n 0, 1) := dk_42 (dk_at dksX12_behind_0 18 rfl rfl)
theorem dX12_behind_19 : decode cX12_behind 19 = .ok (.getfield 7, 3) := dk_180 0 7 (dk_at dksX12_behind_0 19 rfl rfl)
theorem dX12_behind_22 : decode cX12_behind 22 = .ok (.iload_n 3, 1) := dk_29 (dk_at dksX12_behind_0 22 rfl rfl)
theorem dX12_behind_23 : decode cX12_behind 23 = .ok (.invokevirtual 29, 3) := dk_182 0 29 (dk_at dksX12_behind_1 0 rfl rfl)
theorem dX12_behind_26 : decode cX12_behind 26 = .ok (.astore 4, 2) := dk_58 4 (dk_at dksX12_behind_1 3 rfl rfl)
theorem dX12_behind_28 : decode cX12_behind 28 = .ok (.aload 4, 2) := dk_25 4 (dk_at dksX12_behind_1 5 rfl rfl)
theorem dX12_behind_30 : decode cX12_behind 30 = .ok (.aload_n 0, 1) := dk_42 (dk_at dksX12_behind_1 7 rfl rfl)
theorem dX12_behind_31 : decode cX12_behind 31 = .ok (.getfield 13, 3) := dk_180 0 13 (dk_at dksX12_behind_1 8 rfl rfl)
theorem dX12_behind_34 : decode cX12_behind 34 = .ok (.invokevirtual 33, 3) := dk_182 0 33 (dk_at dksX12_behind_1 11 rfl rfl)
theorem dX12_behind_37 : decode cX12_behind 37 = .ok (.ifCond .eq 16, 3) := dk_153 0 16 (dk_at dksX12_behind_1 14 rfl rfl)
theorem dX12_behind_40 : decode cX12_behind 40 = .ok (.aload 4, 2) := dk_25 4 (dk_at dksX12_behind_1 17 rfl rfl)
theorem dX12_behind_42 : decode cX12_behind 42 = .ok (.getfield 39, 3) := dk_180 0 39 (dk_at dksX12_behind_1 19 rfl rfl)
theorem dX12_behind_45 : decode cX12_behind 45 = .ok (.iload_n 1, 1) := dk_27 (dk_at dksX12_behind_1 22 rfl rfl)
theorem dX12_behind_46 : decode cX12_behind 46 = .ok (.if_icmp .le 7, 3) := dk_164 0 7 (dk_at dksX12_behind_2 0 rfl rfl)
theorem dX12_behind_49 : decode cX12_behind 49 = .ok (.iconst 1, 1) := dk_4 (dk_at dksX12_behind_2 3 rfl rfl)
theorem dX12_behind_50 : decode cX12_behind 50 = .ok (.goto 4, 3) := dk_167 0 4 (dk_at dksX12_behind_2 4 rfl rfl)
theorem dX12_behind_53 : decode cX12_behind 53 = .ok (.iconst 0, 1) := dk_3 (dk_at dksX12_behind_2 7 rfl rfl)
theorem dX12_behind_54 : decode cX12_behind 54 = .ok (.istore 5, 2) := dk_54 5 (dk_at dksX12_behind_2 8 rfl rfl)
theorem dX12_behind_56 : decode cX12_behind 56 = .ok (.iload 5, 2) := dk_21 5 (dk_at dksX12_behind_2 10 rfl rfl)
theorem dX12_behind_58 : decode cX12_behind 58 = .ok (.ifCond .eq 24, 3) := dk_153 0 24 (dk_at dksX12_behind_2 12 rfl rfl)
theorem dX12_behind_61 : decode cX12_behind 61 = .ok (.aload_n 2, 1) := dk_44 (dk_at dksX12_behind_2 15 rfl rfl)
theorem dX12_behind_62 : decode cX12_behind 62 = .ok (.ifnull 15, 3) := dk_198 0 15 (dk_at dksX12_behind_2 16 rfl rfl)
theorem dX12_behind_65 : decode cX12_behind 65 = .ok (.aload 4, 2) := dk_25 4 (dk_at dksX12_behind_2 19 rfl rfl)
theorem dX12_behind_67 : decode cX12_behind 67 = .ok (.getfield 39, 3) := dk_180 0 39 (dk_at dksX12_behind_2 21 rfl rfl)
theorem dX12_behind_70 : decode cX12_behind 70 = .ok (.aload_n 2, 1) := dk_44 (dk_at dksX12_behind_3 0 rfl rfl)
theorem dX12_behind_71 : decode cX12_behind 71 = .ok (.getfield 39, 3) := dk_180 0 39 (dk_at dksX12_behind_3 1 rfl rfl)
theorem dX12_behind_74 : decode cX12_behind 74 = .ok (.if_icmp .ge 8, 3) := dk_162 0 8 (dk_at dksX12_behind_3 4 rfl rfl)
theorem dX12_behind_77 : decode cX12_behind 77 = .ok (.aload 4, 2) := dk_25 4 (dk_at dksX12_behind_3 7 rfl rfl)
theorem dX12_behind_79 : decode cX12_behind 79 = .ok (.goto 4, 3) := dk_167 0 4 (dk_at dksX12_behind_3 9 rfl rfl)
theorem dX12_behind_82 : decode cX12_behind 82 = .ok (.aload_n 2, 1) := dk_44 (dk_at dksX12_behind_3 12 rfl rfl)
theorem dX12_behind_83 : decode cX12_behind 83 = .ok (.astore_n 2, 1) := dk_77 (dk_at dksX12_behind_3 13 rfl rfl)
theorem dX12_behind_84 : decode cX12_behind 84 = .ok (.iinc 3 1, 3) := dk_132 3 1 (dk_at dksX12_behind_3 14 rfl rfl)
theorem dX12_behind_87 : decode cX12_behind 87 = .ok (.goto (-83), 3) := dk_167 255 173 (dk_at dksX12_behind_3 17 rfl rfl)
theorem dX12_behind_90 : decode cX12_behind 90 = .ok (.aload_n 2, 1) := dk_44 (dk_at dksX12_behind_3 20 rfl rfl)
theorem dX12_behind_91 : decode cX12_behind 91 = .ok (.areturn, 1) := dk_176 (dk_at dksX12_behind_3 21 rfl rfl)
theorem q136 : (Jvm.Cond.initialized "LandFolio$ByRank") ∈ lw_all := lw_g (lw_at lw_m1 35 rfl) rfl
theorem q200 : (Jvm.Cond.fieldLinkNest "LandFolio$ByRank" (17 : Nat) "LandFolio$Folio" "burdens" "Ljava/util/ArrayList;" "LandFolio") ∈ lw_tbl := lw_at lw_m1 99 rfl
theorem q258 : (Jvm.Cond.selects "LandFolio$ByRank" ({ cls := "java/lang/Object", name := "getClass", desc := "()Ljava/lang/Class;" } : Jvm.MethodName) ({ cls := "java/lang/Object", name := "getClass", desc := "()Ljava/lang/Class;" } : Jvm.MethodName)) ∈ lw_all := lw_g (lw_at lw_m1 157 rfl) rfl
theorem q595 : (Jvm.Cond.fieldLinkNest "LandFolio$ByRank" (39 : Nat) "LandFolio$Burden" "place" "I" "LandFolio") ∈ lw_tbl := lw_at lw_m3 14 rfl
theorem q1139 : (Jvm.Cond.selects "LandFolio$ByRank" ({ cls := "java/lang/Object", name := "equals", desc := "(Ljava/lang/Object;)Z" } : Jvm.MethodName) ({ cls := "java/lang/Object", name := "equals", desc := "(Ljava/lang/Object;)Z" } : Jvm.MethodName)) ∈ lw_all := lw_g (lw_at lw_m5 78 rfl) rfl
theorem q1629 : (Jvm.Cond.instantiable "LandFolio$ByRank" (2 : Nat)) ∈ lw_all := lw_g (lw_at lw_m7 88 rfl) rfl
theorem q1631 : (Jvm.Cond.instanceMethod ({ cls := "LandFolio$ByRank", name := "<init>", desc := "(LLandFolio$Folio;I)V" } : Jvm.MethodName)) ∈ lw_all := lw_g (lw_at lw_m7 90 rfl) rfl
theorem q1632 : (Jvm.Cond.code ({ cls := "LandFolio$ByRank", name := "<init>", desc := "(LLandFolio$Folio;I)V" } : Jvm.MethodName) prog_3_method_1_code (3 : Nat) (Option.none : Option Jvm.ClassFile.FieldType)) ∈ lw_all := lw_g (lw_at lw_m7 91 rfl) rfl
theorem q1633 : (Jvm.Cond.methodLink "LandFolio$ByRank" (1 : Nat) ({ cls := "java/lang/Object", name := "<init>", desc := "()V" } : Jvm.MethodName)) ∈ lw_all := lw_g (lw_at lw_m7 92 rfl) rfl
theorem q1634 : (Jvm.Cond.fieldLink "LandFolio$ByRank" (7 : Nat) "LandFolio$ByRank" "folio" "LLandFolio$Folio;") ∈ lw_all := lw_g (lw_at lw_m7 93 rfl) rfl
theorem q1635 : (Jvm.Cond.fieldLink "LandFolio$ByRank" (13 : Nat) "LandFolio$ByRank" "parcel" "I") ∈ lw_all := lw_g (lw_at lw_m7 94 rfl) rfl
theorem q1636 : (Jvm.Cond.laysFinal "LandFolio$ByRank" "LandFolio$ByRank" "folio" "LLandFolio$Folio;") ∈ lw_all := lw_g (lw_at lw_m7 95 rfl) rfl
theorem q1637 : (Jvm.Cond.soleField "LandFolio$ByRank" "folio") ∈ lw_all := lw_g (lw_at lw_m7 96 rfl) rfl
theorem q1638 : (Jvm.Cond.laysFinal "LandFolio$ByRank" "LandFolio$ByRank" "parcel" "I") ∈ lw_all := lw_g (lw_at lw_m7 97 rfl) rfl
theorem q1639 : (Jvm.Cond.soleField "LandFolio$ByRank" "parcel") ∈ lw_all := lw_g (lw_at lw_m7 98 rfl) rfl
theorem q1640 : (Jvm.Cond.superclass "LandFolio$ByRank" "java/lang/Object") ∈ lw_all := lw_g (lw_at lw_m7 99 rfl) rfl
theorem q1642 : (Jvm.Cond.instanceMethod ({ cls := "LandFolio$ByRank", name := "iterator", desc := "()Ljava/util/Iterator;" } : Jvm.MethodName)) ∈ lw_all := lw_g (lw_at lw_m7 101 rfl) rfl
theorem q1643 : (Jvm.Cond.selects "LandFolio$ByRank" ({ cls := "LandFolio$ByRank", name := "iterator", desc := "()Ljava/util/Iterator;" } : Jvm.MethodName) ({ cls := "LandFolio$ByRank", name := "iterator", desc := "()Ljava/util/Iterator;" } : Jvm.MethodName)) ∈ lw_all := lw_g (lw_at lw_m7 102 rfl) rfl
theorem q1644 : (Jvm.Cond.code ({ cls := "LandFolio$ByRank", name := "iterator", desc := "()Ljava/util/Iterator;" } : Jvm.MethodName) prog_3_method_3_code (1 : Nat) (Option.some (Jvm.ClassFile.FieldType.object "java/util/Iterator"))) ∈ lw_all := lw_g (lw_at lw_m7 103 rfl) rfl
theorem q1645 : (Jvm.Cond.classLink "LandFolio$ByRank" (42 : Nat) "LandFolio$ByRank$1") ∈ lw_all := lw_g (lw_at lw_m7 104 rfl) rfl
theorem q1647 : (Jvm.Cond.methodLink "LandFolio$ByRank" (44 : Nat) ({ cls := "LandFolio$ByRank$1", name := "<init>", desc := "(LLandFolio$ByRank;)V" } : Jvm.MethodName)) ∈ lw_all := lw_g (lw_at lw_m7 106 rfl) rfl
theorem q1652 : (Jvm.Cond.privateMethod ({ cls := "LandFolio$ByRank", name := "behind", desc := "(I)LLandFolio$Burden;" } : Jvm.MethodName)) ∈ lw_tbl := lw_at lw_m7 111 rfl
theorem q1653 : (Jvm.Cond.instanceMethod ({ cls := "LandFolio$ByRank", name := "behind", desc := "(I)LLandFolio$Burden;" } : Jvm.MethodName)) ∈ lw_all := lw_g (lw_at lw_m7 112 rfl) rfl
theorem q1654 : (Jvm.Cond.code ({ cls := "LandFolio$ByRank", name := "behind", desc := "(I)LLandFolio$Burden;" } : Jvm.MethodName) prog_3_method_2_code (6 : Nat) (Option.some (Jvm.ClassFile.FieldType.object "LandFolio$Burden"))) ∈ lw_all := lw_g (lw_at lw_m7 113 rfl) rfl
theorem q1655 : (Jvm.Cond.methodLink "LandFolio$ByRank" (23 : Nat) ({ cls := "java/util/ArrayList", name := "size", desc := "()I" } : Jvm.MethodName)) ∈ lw_all := lw_g (lw_at lw_m7 114 rfl) rfl
theorem q1656 : (Jvm.Cond.methodLink "LandFolio$ByRank" (29 : Nat) ({ cls := "LandFolio$Folio", name := "burden", desc := "(I)LLandFolio$Burden;" } : Jvm.MethodName)) ∈ lw_all := lw_g (lw_at lw_m7 115 rfl) rfl
theorem q1657 : (Jvm.Cond.methodLink "LandFolio$ByRank" (33 : Nat) ({ cls := "LandFolio$Burden", name := "isOn", desc := "(I)Z" } : Jvm.MethodName)) ∈ lw_all := lw_g (lw_at lw_m7 116 rfl) rfl
theorem q2640 : (Jvm.Cond.castable "LandFolio$ByRank" "java/lang/Object") ∈ lw_tbl := lw_at lw_m11 139 rfl
theorem in_X12 : ∀ w ∈ wsX120, w ∈ lw_all := lw_in wsX120 [1636, 1638] (by decide +kernel) (by decide +kernel)
/-! LandFolio$ByRank$1 -/
set_option maxRecDepth 100000
def RX13 : String := "LandFolio$ByRank$1"
def TX13 : u_T := fun k => match k with
  | 0 => ("LandFolio$ByRank$1", "coming", "LLandFolio$Burden;", false)
  | _ => ("LandFolio$ByRank$1", "this$0", "LLandFolio$ByRank;", true)
def tyX13 : Nat → FieldType := fun k => match k with
  | 0 => .object "LandFolio$Burden"
  | _ => .object "LandFolio$ByRank"
abbrev wsX130 : List Cond := u_ws RX13 TX13 2
theorem nmX13 : ∀ a, a < 2 → ∀ b, b < 2 → a ≠ b → (TX13 a).2.1 ≠ (TX13 b).2.1 := by decide +kernel
theorem tyX13_ok : ∀ k, k < 2 → parseFieldDescriptor (TX13 k).2.2.1 = some (tyX13 k) := by decide +kernel
abbrev cX13_init : ByteArray := prog_4_method_1_code
def yX13_init : MethodName := ⟨RX13, "<init>", "(LLandFolio$ByRank;)V"⟩
def dkwX13_init_0 : List UInt8 := [42, 43, 181, 0, 1, 42, 183, 0, 7, 42, 42, 180, 0, 1, 2, 182, 0, 13, 181, 0, 19, 177]
abbrev dktX13_init_0 : List UInt8 := dkwX13_init_0 ++ []
theorem dksX13_init_0 : cX13_init.data.toList.drop 0 = dktX13_init_0 := by decide +kernel
theorem dX13_init_0 : decode cX13_init 0 = .ok (.aload_n 0, 1) := dk_42 (dk_at dksX13_init_0 0 rfl rfl)
theorem dX13_init_1 : decode cX13_init 1 = .ok (.aload_n 1, 1) := dk_43 (dk_at dksX13_init_0 1 rfl rfl)
theorem dX13_init_2 : decode cX13_init 2 = .ok (.putfield 1, 3) := dk_181 0 1 (dk_at dksX13_init_0 2 rfl rfl)
theorem dX13_init_5 : decode cX13_init 5 = .ok (.aload_n 0, 1) := dk_42 (dk_at dksX13_init_0 5 rfl rfl)
theorem dX13_init_6 : decode cX13_init 6 = .ok (.invokespecial 7, 3) := dk_183 0 7 (dk_at dksX13_init_0 6 rfl rfl)
theorem dX13_init_9 : decode cX13_init 9 = .ok (.aload_n 0, 1) := dk_42 (dk_at dksX13_init_0 9 rfl rfl)
theorem dX13_init_10 : decode cX13_init 10 = .ok (.aload_n 0, 1) := dk_42 (dk_at dksX13_init_0 10 rfl rfl)
theorem dX13_init_11 : decode cX13_init 11 = .ok (.getfield 1, 3) := dk_180 0 1 (dk_at dksX13_init_0 11 rfl rfl)
theorem dX13_init_14 : decode cX13_init 14 = .ok (.iconst (-1), 1) := dk_2 (dk_at dksX13_init_0 14 rfl rfl)
theorem dX13_init_15 : decode cX13_init 15 = .ok (.invokevirtual 13, 3) := dk_182 0 13 (dk_at dksX13_init_0 15 rfl rfl)
theorem dX13_init_18 : decode cX13_init 18 = .ok (.putfield 19, 3) := dk_181 0 19 (dk_at dksX13_init_0 18 rfl rfl)
theorem dX13_init_21 : decode cX13_init 21 = .ok (.return_, 1) := dk_177 (dk_at dksX13_init_0 21 rfl rfl)
abbrev cX13_hasNext : ByteArray := prog_4_method_2_code
def yX13_hasNext : MethodName := ⟨RX13, "hasNext", "()Z"⟩
def dkwX13_hasNext_0 : List UInt8 := [42, 180, 0, 19, 198, 0, 7, 4, 167, 0, 4, 3, 172]
abbrev dktX13_hasNext_0 : List UInt8 := dkwX13_hasNext_0 ++ []
theorem dksX13_hasNext_0 : cX13_hasNext.data.toList.drop 0 = dktX13_hasNext_0 := by decide +kernel
theorem dX13_hasNext_0 : decode cX13_hasNext 0 = .ok (.aload_n 0, 1) := dk_42 (dk_at dksX13_hasNext_0 0 rfl rfl)
theorem dX13_hasNext_1 : decode cX13_hasNext 1 = .ok (.getfield 19, 3) := dk_180 0 19 (dk_at dksX13_hasNext_0 1 rfl rfl)
theorem dX13_hasNext_4 : decode cX13_hasNext 4 = .ok (.ifnull 7, 3) := dk_198 0 7 (dk_at dksX13_hasNext_0 4 rfl rfl)
theorem dX13_hasNext_7 : decode cX13_hasNext 7 = .ok (.iconst 1, 1) := dk_4 (dk_at dksX13_hasNext_0 7 rfl rfl)
theorem dX13_hasNext_8 : decode cX13_hasNext 8 = .ok (.goto 4, 3) := dk_167 0 4 (dk_at dksX13_hasNext_0 8 rfl rfl)
theorem dX13_hasNext_11 : decode cX13_hasNext 11 = .ok (.iconst 0, 1) := dk_3 (dk_at dksX13_hasNext_0 11 rfl rfl)
theorem dX13_hasNext_12 : decode cX13_hasNext 12 = .ok (.ireturn, 1) := dk_172 (dk_at dksX13_hasNext_0 12 rfl rfl)
abbrev cX13_next : ByteArray := prog_4_method_4_code
def yX13_next : MethodName := ⟨RX13, "next", "()Ljava/lang/Object;"⟩
theorem dX13_next_0 : decode cX13_next 0 = .ok (.aload_n 0, 1) := by decide +kernel
theorem dX13_next_1 : decode cX13_next 1 = .ok (.invokevirtual 32, 3) := by decide +kernel
theorem dX13_next_4 : decode cX13_next 4 = .ok (.areturn, 1) := by decide +kernel
abbrev cX13_next_2 : ByteArray := prog_4_method_3_code
def yX13_next_2 : MethodName := ⟨RX13, "next", "()LLandFolio$Burden;"⟩
def dkwX13_next_2_1 : List UInt8 := [180, 0, 1, 43, 180, 0, 26, 182, 0, 13, 181, 0, 19, 43, 176]
abbrev dktX13_next_2_1 : List UInt8 := dkwX13_next_2_1 ++ []
def dkwX13_next_2_0 : List UInt8 := [42, 180, 0, 19, 199, 0, 11, 187, 0, 23, 89, 183, 0, 25, 191, 42, 180, 0, 19, 76, 42, 42]
abbrev dktX13_next_2_0 : List UInt8 := dkwX13_next_2_0 ++ dktX13_next_2_1
theorem dksX13_next_2_0 : cX13_next_2.data.toList.drop 0 = dktX13_next_2_0 := by decide +kernel
theorem dksX13_next_2_1 : cX13_next_2.data.toList.drop 22 = dktX13_next_2_1 := dk_seg dksX13_next_2_0 22 rfl rfl
theorem dX13_next_2_0 : decode cX13_next_2 0 = .ok (.aload_n 0, 1) := dk_42 (dk_at dksX13_next_2_0 0 rfl rfl)
theorem dX13_next_2_1 : decode cX13_next_2 1 = .ok (.getfield 19, 3) := dk_180 0 19 (dk_at dksX13_next_2_0 1 rfl rfl)
theorem dX13_next_2_4 : decode cX13_next_2 4 = .ok (.ifnonnull 11, 3) := dk_199 0 11 (dk_at dksX13_next_2_0 4 rfl rfl)
theorem dX13_next_2_7 : decode cX13_next_2 7 = .ok (.new 23, 3) := dk_187 0 23 (dk_at dksX13_next_2_0 7 rfl rfl)
theorem dX13_next_2_10 : decode cX13_next_2 10 = .ok (.dup, 1) := dk_89 (dk_at dksX13_next_2_0 10 rfl rfl)
theorem dX13_next_2_11 : decode cX13_next_2 11 = .ok (.invokespecial 25, 3) := dk_183 0 25 (dk_at dksX13_next_2_0 11 rfl rfl)
theorem dX13_next_2_14 : decode cX13_next_2 14 = .ok (.athrow, 1) := dk_191 (dk_at dksX13_next_2_0 14 rfl rfl)
theorem dX13_next_2_15 : decode cX13_next_2 15 = .ok (.aload_n 0, 1) := dk_42 (dk_at dksX13_next_2_0 15 rfl rfl)
theorem dX13_next_2_16 : decode cX13_next_2 16 = .ok (.getfield 19, 3) := dk_180 0 19 (dk_at dksX13_next_2_0 16 rfl rfl)
theorem dX13_next_2_19 : decode cX13_next_2 19 = .ok (.astore_n 1, 1) := dk_76 (dk_at dksX13_next_2_0 19 rfl rfl)
theorem dX13_next_2_20 : decode cX13_next_2 20 = .ok (.aload_n 0, 1) := dk_42 (dk_at dksX13_next_2_0 20 rfl rfl)
theorem dX13_next_2_21 : decode cX13_next_2 21 = .ok (.aload_n 0, 1) := dk_42 (dk_at dksX13_next_2_0 21 rfl rfl)
theorem dX13_next_2_22 : decode cX13_next_2 22 = .ok (.getfield 1, 3) := dk_180 0 1 (dk_at dksX13_next_2_1 0 rfl rfl)
theorem dX13_next_2_25 : decode cX13_next_2 25 = .ok (.aload_n 1, 1) := dk_43 (dk_at dksX13_next_2_1 3 rfl rfl)
theorem dX13_next_2_26 : decode cX13_next_2 26 = .ok (.getfield 26, 3) := dk_180 0 26 (dk_at dksX13_next_2_1 4 rfl rfl)
theorem dX13_next_2_29 : decode cX13_next_2 29 = .ok (.invokevirtual 13, 3) := dk_182 0 13 (dk_at dksX13_next_2_1 7 rfl rfl)
theorem dX13_next_2_32 : decode cX13_next_2 32 = .ok (.putfield 19, 3) := dk_181 0 19 (dk_at dksX13_next_2_1 10 rfl rfl)
theorem dX13_next_2_35 : decode cX13_next_2 35 = .ok (.aload_n 1, 1) := dk_43 (dk_at dksX13_next_2_1 13 rfl rfl)
theorem dX13_next_2_36 : decode cX13_next_2 36 = .ok (.areturn, 1) := dk_176 (dk_at dksX13_next_2_1 14 rfl rfl)
theorem q137 : (Jvm.Cond.initialized "LandFolio$ByRank$1") ∈ lw_all := lw_g (lw_at lw_m1 36 rfl) rfl
theorem q259 : (Jvm.Cond.selects "LandFolio$ByRank$1" ({ cls := "java/lang/Object", name := "getClass", desc := "()Ljava/lang/Class;" } : Jvm.MethodName) ({ cls := "java/lang/Object", name := "getClass", desc := "()Ljava/lang/Class;" } : Jvm.MethodName)) ∈ lw_all := lw_g (lw_at lw_m1 158 rfl) rfl
theorem q596 : (Jvm.Cond.fieldLinkNest "LandFolio$ByRank$1" (26 : Nat) "LandFolio$Burden" "place" "I" "LandFolio") ∈ lw_tbl := lw_at lw_m3 15 rfl
theorem q1140 : (Jvm.Cond.selects "LandFolio$ByRank$1" ({ cls := "java/lang/Object", name := "equals", desc := "(Ljava/lang/Object;)Z" } : Jvm.MethodName) ({ cls := "java/lang/Object", name := "equals", desc := "(Ljava/lang/Object;)Z" } : Jvm.MethodName)) ∈ lw_all := lw_g (lw_at lw_m5 79 rfl) rfl
theorem q1646 : (Jvm.Cond.instantiable "LandFolio$ByRank$1" (2 : Nat)) ∈ lw_all := lw_g (lw_at lw_m7 105 rfl) rfl
theorem q1648 : (Jvm.Cond.instanceMethod ({ cls := "LandFolio$ByRank$1", name := "<init>", desc := "(LLandFolio$ByRank;)V" } : Jvm.MethodName)) ∈ lw_all := lw_g (lw_at lw_m7 107 rfl) rfl
theorem q1649 : (Jvm.Cond.code ({ cls := "LandFolio$ByRank$1", name := "<init>", desc := "(LLandFolio$ByRank;)V" } : Jvm.MethodName) prog_4_method_1_code (2 : Nat) (Option.none : Option Jvm.ClassFile.FieldType)) ∈ lw_all := lw_g (lw_at lw_m7 108 rfl) rfl
theorem q1650 : (Jvm.Cond.methodLink "LandFolio$ByRank$1" (7 : Nat) ({ cls := "java/lang/Object", name := "<init>", desc := "()V" } : Jvm.MethodName)) ∈ lw_all := lw_g (lw_at lw_m7 109 rfl) rfl
theorem q1651 : (Jvm.Cond.methodLinkNest "LandFolio$ByRank$1" (13 : Nat) ({ cls := "LandFolio$ByRank", name := "behind", desc := "(I)LLandFolio$Burden;" } : Jvm.MethodName) "LandFolio") ∈ lw_tbl := lw_at lw_m7 110 rfl
theorem q1658 : (Jvm.Cond.fieldLink "LandFolio$ByRank$1" (19 : Nat) "LandFolio$ByRank$1" "coming" "LLandFolio$Burden;") ∈ lw_all := lw_g (lw_at lw_m7 117 rfl) rfl
theorem q1659 : (Jvm.Cond.fieldLink "LandFolio$ByRank$1" (1 : Nat) "LandFolio$ByRank$1" "this$0" "LLandFolio$ByRank;") ∈ lw_all := lw_g (lw_at lw_m7 118 rfl) rfl
theorem q1660 : (Jvm.Cond.lays "LandFolio$ByRank$1" "LandFolio$ByRank$1" "coming" "LLandFolio$Burden;") ∈ lw_all := lw_g (lw_at lw_m7 119 rfl) rfl
theorem q1661 : (Jvm.Cond.soleField "LandFolio$ByRank$1" "coming") ∈ lw_all := lw_g (lw_at lw_m7 120 rfl) rfl
theorem q1662 : (Jvm.Cond.laysFinal "LandFolio$ByRank$1" "LandFolio$ByRank$1" "this$0" "LLandFolio$ByRank;") ∈ lw_all := lw_g (lw_at lw_m7 121 rfl) rfl
theorem q1663 : (Jvm.Cond.soleField "LandFolio$ByRank$1" "this$0") ∈ lw_all := lw_g (lw_at lw_m7 122 rfl) rfl
theorem q1664 : (Jvm.Cond.superclass "LandFolio$ByRank$1" "java/lang/Object") ∈ lw_all := lw_g (lw_at lw_m7 123 rfl) rfl
theorem q1669 : (Jvm.Cond.castable "LandFolio$ByRank$1" "java/util/Iterator") ∈ lw_tbl := lw_at lw_m7 128 rfl
theorem q1670 : (Jvm.Cond.selects "LandFolio$ByRank$1" ({ cls := "java/util/Iterator", name := "hasNext", desc := "()Z" } : Jvm.MethodName) ({ cls := "LandFolio$ByRank$1", name := "hasNext", desc := "()Z" } : Jvm.MethodName)) ∈ lw_all := lw_g (lw_at lw_m7 129 rfl) rfl
theorem q1671 : (Jvm.Cond.unhidden "LandFolio$ByRank$1" "hasNext" "()Z") ∈ lw_tbl := lw_at lw_m7 130 rfl
theorem q1672 : (Jvm.Cond.instanceMethod ({ cls := "LandFolio$ByRank$1", name := "hasNext", desc := "()Z" } : Jvm.MethodName)) ∈ lw_all := lw_g (lw_at lw_m7 131 rfl) rfl
theorem q1673 : (Jvm.Cond.publicMethod ({ cls := "LandFolio$ByRank$1", name := "hasNext", desc := "()Z" } : Jvm.MethodName)) ∈ lw_tbl := lw_at lw_m7 132 rfl
theorem q1674 : (Jvm.Cond.code ({ cls := "LandFolio$ByRank$1", name := "hasNext", desc := "()Z" } : Jvm.MethodName) prog_4_method_2_code (1 : Nat) (Option.some Jvm.ClassFile.FieldType.boolean)) ∈ lw_all := lw_g (lw_at lw_m7 133 rfl) rfl
theorem q1679 : (Jvm.Cond.selects "LandFolio$ByRank$1" ({ cls := "java/util/Iterator", name := "next", desc := "()Ljava/lang/Object;" } : Jvm.MethodName) ({ cls := "LandFolio$ByRank$1", name := "next", desc := "()Ljava/lang/Object;" } : Jvm.MethodName)) ∈ lw_all := lw_g (lw_at lw_m7 138 rfl) rfl
theorem q1680 : (Jvm.Cond.unhidden "LandFolio$ByRank$1" "next" "()Ljava/lang/Object;") ∈ lw_tbl := lw_at lw_m7 139 rfl
theorem q1681 : (Jvm.Cond.instanceMethod ({ cls := "LandFolio$ByRank$1", name := "next", desc := "()Ljava/lang/Object;" } : Jvm.MethodName)) ∈ lw_all := lw_g (lw_at lw_m7 140 rfl) rfl
theorem q1682 : (Jvm.Cond.publicMethod ({ cls := "LandFolio$ByRank$1", name := "next", desc := "()Ljava/lang/Object;" } : Jvm.MethodName)) ∈ lw_tbl := lw_at lw_m7 141 rfl
theorem q1683 : (Jvm.Cond.code ({ cls := "LandFolio$ByRank$1", name := "next", desc := "()Ljava/lang/Object;" } : Jvm.MethodName) prog_4_method_4_code (1 : Nat) (Option.some (Jvm.ClassFile.FieldType.object "java/lang/Object"))) ∈ lw_all := lw_g (lw_at lw_m7 142 rfl) rfl
theorem q1684 : (Jvm.Cond.methodLink "LandFolio$ByRank$1" (32 : Nat) ({ cls := "LandFolio$ByRank$1", name := "next", desc := "()LLandFolio$Burden;" } : Jvm.MethodName)) ∈ lw_all := lw_g (lw_at lw_m7 143 rfl) rfl
theorem q1685 : (Jvm.Cond.instanceMethod ({ cls := "LandFolio$ByRank$1", name := "next", desc := "()LLandFolio$Burden;" } : Jvm.MethodName)) ∈ lw_all := lw_g (lw_at lw_m7 144 rfl) rfl
theorem q1686 : (Jvm.Cond.selects "LandFolio$ByRank$1" ({ cls := "LandFolio$ByRank$1", name := "next", desc := "()LLandFolio$Burden;" } : Jvm.MethodName) ({ cls := "LandFolio$ByRank$1", name := "next", desc := "()LLandFolio$Burden;" } : Jvm.MethodName)) ∈ lw_all := lw_g (lw_at lw_m7 145 rfl) rfl
theorem q1687 : (Jvm.Cond.code ({ cls := "LandFolio$ByRank$1", name := "next", desc := "()LLandFolio$Burden;" } : Jvm.MethodName) prog_4_method_3_code (2 : Nat) (Option.some (Jvm.ClassFile.FieldType.object "LandFolio$Burden"))) ∈ lw_all := lw_g (lw_at lw_m7 146 rfl) rfl
theorem q1688 : (Jvm.Cond.classLink "LandFolio$ByRank$1" (23 : Nat) "java/util/NoSuchElementException") ∈ lw_all := lw_g (lw_at lw_m7 147 rfl) rfl
theorem q1699 : (Jvm.Cond.methodLink "LandFolio$ByRank$1" (25 : Nat) ({ cls := "java/util/NoSuchElementException", name := "<init>", desc := "()V" } : Jvm.MethodName)) ∈ lw_all := lw_g (lw_at lw_m7 158 rfl) rfl
theorem q2641 : (Jvm.Cond.castable "LandFolio$ByRank$1" "java/lang/Object") ∈ lw_tbl := lw_at lw_m11 140 rfl
theorem in_X13 : ∀ w ∈ wsX130, w ∈ lw_all := lw_in wsX130 [1660, 1662] (by decide +kernel) (by decide +kernel)
/-! LandFolio$Reason$1 -/
set_option maxRecDepth 100000
def RX14 : String := "LandFolio$Reason$1"
abbrev cX14_holds : ByteArray := prog_14_method_2_code
def yX14_holds : MethodName := ⟨RX14, "holds", "(LLandFolio$Folio;II)Z"⟩
theorem dX14_holds_0 : decode cX14_holds 0 = .ok (.iconst 0, 1) := by decide +kernel
theorem dX14_holds_1 : decode cX14_holds 1 = .ok (.ireturn, 1) := by decide +kernel
theorem q268 : (Jvm.Cond.selects "LandFolio$Reason$1" ({ cls := "java/lang/Object", name := "getClass", desc := "()Ljava/lang/Class;" } : Jvm.MethodName) ({ cls := "java/lang/Object", name := "getClass", desc := "()Ljava/lang/Class;" } : Jvm.MethodName)) ∈ lw_all := lw_g (lw_at lw_m1 167 rfl) rfl
theorem q1149 : (Jvm.Cond.selects "LandFolio$Reason$1" ({ cls := "java/lang/Object", name := "equals", desc := "(Ljava/lang/Object;)Z" } : Jvm.MethodName) ({ cls := "java/lang/Enum", name := "equals", desc := "(Ljava/lang/Object;)Z" } : Jvm.MethodName)) ∈ lw_all := lw_g (lw_at lw_m5 88 rfl) rfl
theorem q1402 : (Jvm.Cond.selects "LandFolio$Reason$1" ({ cls := "LandFolio$Reason", name := "holds", desc := "(LLandFolio$Folio;II)Z" } : Jvm.MethodName) ({ cls := "LandFolio$Reason$1", name := "holds", desc := "(LLandFolio$Folio;II)Z" } : Jvm.MethodName)) ∈ lw_all := lw_g (lw_at lw_m6 101 rfl) rfl
theorem q1403 : (Jvm.Cond.instanceMethod ({ cls := "LandFolio$Reason$1", name := "holds", desc := "(LLandFolio$Folio;II)Z" } : Jvm.MethodName)) ∈ lw_all := lw_g (lw_at lw_m6 102 rfl) rfl
theorem q1404 : (Jvm.Cond.code ({ cls := "LandFolio$Reason$1", name := "holds", desc := "(LLandFolio$Folio;II)Z" } : Jvm.MethodName) prog_14_method_2_code (4 : Nat) (Option.some Jvm.ClassFile.FieldType.boolean)) ∈ lw_all := lw_g (lw_at lw_m6 103 rfl) rfl
theorem q1442 : (Jvm.Cond.selects "LandFolio$Reason$1" ({ cls := "LandFolio$Reason", name := "ordinal", desc := "()I" } : Jvm.MethodName) ({ cls := "java/lang/Enum", name := "ordinal", desc := "()I" } : Jvm.MethodName)) ∈ lw_all := lw_g (lw_at lw_m6 141 rfl) rfl
theorem q2635 : (Jvm.Cond.castable "LandFolio$Reason$1" "java/lang/Object") ∈ lw_tbl := lw_at lw_m11 134 rfl
theorem q2644 : (Jvm.Cond.castable "LandFolio$Reason$1" "LandFolio$Reason") ∈ lw_tbl := lw_at lw_m11 143 rfl
/-! LandFolio$Reason$2 -/
set_option maxRecDepth 100000
def RX15 : String := "LandFolio$Reason$2"
abbrev cX15_holds : ByteArray := prog_15_method_2_code
def yX15_holds : MethodName := ⟨RX15, "holds", "(LLandFolio$Folio;II)Z"⟩
def dkwX15_holds_1 : List UInt8 := [167, 0, 4, 3, 172]
abbrev dktX15_holds_1 : List UInt8 := dkwX15_holds_1 ++ []
def dkwX15_holds_0 : List UInt8 := [43, 28, 182, 0, 7, 182, 0, 13, 153, 0, 14, 43, 29, 182, 0, 7, 182, 0, 13, 154, 0, 7, 4]
abbrev dktX15_holds_0 : List UInt8 := dkwX15_holds_0 ++ dktX15_holds_1
theorem dksX15_holds_0 : cX15_holds.data.toList.drop 0 = dktX15_holds_0 := by decide +kernel
theorem dksX15_holds_1 : cX15_holds.data.toList.drop 23 = dktX15_holds_1 := dk_seg dksX15_holds_0 23 rfl rfl
theorem dX15_holds_0 : decode cX15_holds 0 = .ok (.aload_n 1, 1) := dk_43 (dk_at dksX15_holds_0 0 rfl rfl)
theorem dX15_holds_1 : decode cX15_holds 1 = .ok (.iload_n 2, 1) := dk_28 (dk_at dksX15_holds_0 1 rfl rfl)
theorem dX15_holds_2 : decode cX15_holds 2 = .ok (.invokevirtual 7, 3) := dk_182 0 7 (dk_at dksX15_holds_0 2 rfl rfl)
theorem dX15_holds_5 : decode cX15_holds 5 = .ok (.invokevirtual 13, 3) := dk_182 0 13 (dk_at dksX15_holds_0 5 rfl rfl)
theorem dX15_holds_8 : decode cX15_holds 8 = .ok (.ifCond .eq 14, 3) := dk_153 0 14 (dk_at dksX15_holds_0 8 rfl rfl)
theorem dX15_holds_11 : decode cX15_holds 11 = .ok (.aload_n 1, 1) := dk_43 (dk_at dksX15_holds_0 11 rfl rfl)
theorem dX15_holds_12 : decode cX15_holds 12 = .ok (.iload_n 3, 1) := dk_29 (dk_at dksX15_holds_0 12 rfl rfl)
theorem dX15_holds_13 : decode cX15_holds 13 = .ok (.invokevirtual 7, 3) := dk_182 0 7 (dk_at dksX15_holds_0 13 rfl rfl)
theorem dX15_holds_16 : decode cX15_holds 16 = .ok (.invokevirtual 13, 3) := dk_182 0 13 (dk_at dksX15_holds_0 16 rfl rfl)
theorem dX15_holds_19 : decode cX15_holds 19 = .ok (.ifCond .ne 7, 3) := dk_154 0 7 (dk_at dksX15_holds_0 19 rfl rfl)
theorem dX15_holds_22 : decode cX15_holds 22 = .ok (.iconst 1, 1) := dk_4 (dk_at dksX15_holds_0 22 rfl rfl)
theorem dX15_holds_23 : decode cX15_holds 23 = .ok (.goto 4, 3) := dk_167 0 4 (dk_at dksX15_holds_1 0 rfl rfl)
theorem dX15_holds_26 : decode cX15_holds 26 = .ok (.iconst 0, 1) := dk_3 (dk_at dksX15_holds_1 3 rfl rfl)
theorem dX15_holds_27 : decode cX15_holds 27 = .ok (.ireturn, 1) := dk_172 (dk_at dksX15_holds_1 4 rfl rfl)
theorem q269 : (Jvm.Cond.selects "LandFolio$Reason$2" ({ cls := "java/lang/Object", name := "getClass", desc := "()Ljava/lang/Class;" } : Jvm.MethodName) ({ cls := "java/lang/Object", name := "getClass", desc := "()Ljava/lang/Class;" } : Jvm.MethodName)) ∈ lw_all := lw_g (lw_at lw_m1 168 rfl) rfl
theorem q1152 : (Jvm.Cond.selects "LandFolio$Reason$2" ({ cls := "java/lang/Object", name := "equals", desc := "(Ljava/lang/Object;)Z" } : Jvm.MethodName) ({ cls := "java/lang/Enum", name := "equals", desc := "(Ljava/lang/Object;)Z" } : Jvm.MethodName)) ∈ lw_all := lw_g (lw_at lw_m5 91 rfl) rfl
theorem q1405 : (Jvm.Cond.selects "LandFolio$Reason$2" ({ cls := "LandFolio$Reason", name := "holds", desc := "(LLandFolio$Folio;II)Z" } : Jvm.MethodName) ({ cls := "LandFolio$Reason$2", name := "holds", desc := "(LLandFolio$Folio;II)Z" } : Jvm.MethodName)) ∈ lw_all := lw_g (lw_at lw_m6 104 rfl) rfl
theorem q1406 : (Jvm.Cond.instanceMethod ({ cls := "LandFolio$Reason$2", name := "holds", desc := "(LLandFolio$Folio;II)Z" } : Jvm.MethodName)) ∈ lw_all := lw_g (lw_at lw_m6 105 rfl) rfl
theorem q1407 : (Jvm.Cond.code ({ cls := "LandFolio$Reason$2", name := "holds", desc := "(LLandFolio$Folio;II)Z" } : Jvm.MethodName) prog_15_method_2_code (4 : Nat) (Option.some Jvm.ClassFile.FieldType.boolean)) ∈ lw_all := lw_g (lw_at lw_m6 106 rfl) rfl
theorem q1408 : (Jvm.Cond.methodLink "LandFolio$Reason$2" (7 : Nat) ({ cls := "LandFolio$Folio", name := "parcel", desc := "(I)LLandFolio$Parcel;" } : Jvm.MethodName)) ∈ lw_all := lw_g (lw_at lw_m6 107 rfl) rfl
theorem q1409 : (Jvm.Cond.methodLink "LandFolio$Reason$2" (13 : Nat) ({ cls := "LandFolio$Parcel", name := "isLive", desc := "()Z" } : Jvm.MethodName)) ∈ lw_all := lw_g (lw_at lw_m6 108 rfl) rfl
theorem q1443 : (Jvm.Cond.selects "LandFolio$Reason$2" ({ cls := "LandFolio$Reason", name := "ordinal", desc := "()I" } : Jvm.MethodName) ({ cls := "java/lang/Enum", name := "ordinal", desc := "()I" } : Jvm.MethodName)) ∈ lw_all := lw_g (lw_at lw_m6 142 rfl) rfl
theorem q2636 : (Jvm.Cond.castable "LandFolio$Reason$2" "java/lang/Object") ∈ lw_tbl := lw_at lw_m11 135 rfl
theorem q2645 : (Jvm.Cond.castable "LandFolio$Reason$2" "LandFolio$Reason") ∈ lw_tbl := lw_at lw_m11 144 rfl
/-! LandFolio$Reason$3 -/
set_option maxRecDepth 100000
def RX16 : String := "LandFolio$Reason$3"
abbrev cX16_holds : ByteArray := prog_16_method_2_code
def yX16_holds : MethodName := ⟨RX16, "holds", "(LLandFolio$Folio;II)Z"⟩
def dkwX16_holds_1 : List UInt8 := [167, 0, 4, 3, 172]
abbrev dktX16_holds_1 : List UInt8 := dkwX16_holds_1 ++ []
def dkwX16_holds_0 : List UInt8 := [43, 28, 182, 0, 7, 180, 0, 13, 154, 0, 14, 43, 29, 182, 0, 7, 180, 0, 13, 153, 0, 7, 4]
abbrev dktX16_holds_0 : List UInt8 := dkwX16_holds_0 ++ dktX16_holds_1
theorem dksX16_holds_0 : cX16_holds.data.toList.drop 0 = dktX16_holds_0 := by decide +kernel
theorem dksX16_holds_1 : cX16_holds.data.toList.drop 23 = dktX16_holds_1 := dk_seg dksX16_holds_0 23 rfl rfl
theorem dX16_holds_0 : decode cX16_holds 0 = .ok (.aload_n 1, 1) := dk_43 (dk_at dksX16_holds_0 0 rfl rfl)
theorem dX16_holds_1 : decode cX16_holds 1 = .ok (.iload_n 2, 1) := dk_28 (dk_at dksX16_holds_0 1 rfl rfl)
theorem dX16_holds_2 : decode cX16_holds 2 = .ok (.invokevirtual 7, 3) := dk_182 0 7 (dk_at dksX16_holds_0 2 rfl rfl)
theorem dX16_holds_5 : decode cX16_holds 5 = .ok (.getfield 13, 3) := dk_180 0 13 (dk_at dksX16_holds_0 5 rfl rfl)
theorem dX16_holds_8 : decode cX16_holds 8 = .ok (.ifCond .ne 14, 3) := dk_154 0 14 (dk_at dksX16_holds_0 8 rfl rfl)
theorem dX16_holds_11 : decode cX16_holds 11 = .ok (.aload_n 1, 1) := dk_43 (dk_at dksX16_holds_0 11 rfl rfl)
theorem dX16_holds_12 : decode cX16_holds 12 = .ok (.iload_n 3, 1) := dk_29 (dk_at dksX16_holds_0 12 rfl rfl)
theorem dX16_holds_13 : decode cX16_holds 13 = .ok (.invokevirtual 7, 3) := dk_182 0 7 (dk_at dksX16_holds_0 13 rfl rfl)
theorem dX16_holds_16 : decode cX16_holds 16 = .ok (.getfield 13, 3) := dk_180 0 13 (dk_at dksX16_holds_0 16 rfl rfl)
theorem dX16_holds_19 : decode cX16_holds 19 = .ok (.ifCond .eq 7, 3) := dk_153 0 7 (dk_at dksX16_holds_0 19 rfl rfl)
theorem dX16_holds_22 : decode cX16_holds 22 = .ok (.iconst 1, 1) := dk_4 (dk_at dksX16_holds_0 22 rfl rfl)
theorem dX16_holds_23 : decode cX16_holds 23 = .ok (.goto 4, 3) := dk_167 0 4 (dk_at dksX16_holds_1 0 rfl rfl)
theorem dX16_holds_26 : decode cX16_holds 26 = .ok (.iconst 0, 1) := dk_3 (dk_at dksX16_holds_1 3 rfl rfl)
theorem dX16_holds_27 : decode cX16_holds 27 = .ok (.ireturn, 1) := dk_172 (dk_at dksX16_holds_1 4 rfl rfl)
theorem q270 : (Jvm.Cond.selects "LandFolio$Reason$3" ({ cls := "java/lang/Object", name := "getClass", desc := "()Ljava/lang/Class;" } : Jvm.MethodName) ({ cls := "java/lang/Object", name := "getClass", desc := "()Ljava/lang/Class;" } : Jvm.MethodName)) ∈ lw_all := lw_g (lw_at lw_m1 169 rfl) rfl
theorem q329 : (Jvm.Cond.fieldLinkNest "LandFolio$Reason$3" (13 : Nat) "LandFolio$Parcel" "isBarred" "Z" "LandFolio") ∈ lw_tbl := lw_at lw_m1 228 rfl
theorem q1153 : (Jvm.Cond.selects "LandFolio$Reason$3" ({ cls := "java/lang/Object", name := "equals", desc := "(Ljava/lang/Object;)Z" } : Jvm.MethodName) ({ cls := "java/lang/Enum", name := "equals", desc := "(Ljava/lang/Object;)Z" } : Jvm.MethodName)) ∈ lw_all := lw_g (lw_at lw_m5 92 rfl) rfl
theorem q1410 : (Jvm.Cond.selects "LandFolio$Reason$3" ({ cls := "LandFolio$Reason", name := "holds", desc := "(LLandFolio$Folio;II)Z" } : Jvm.MethodName) ({ cls := "LandFolio$Reason$3", name := "holds", desc := "(LLandFolio$Folio;II)Z" } : Jvm.MethodName)) ∈ lw_all := lw_g (lw_at lw_m6 109 rfl) rfl
theorem q1411 : (Jvm.Cond.instanceMethod ({ cls := "LandFolio$Reason$3", name := "holds", desc := "(LLandFolio$Folio;II)Z" } : Jvm.MethodName)) ∈ lw_all := lw_g (lw_at lw_m6 110 rfl) rfl
theorem q1412 : (Jvm.Cond.code ({ cls := "LandFolio$Reason$3", name := "holds", desc := "(LLandFolio$Folio;II)Z" } : Jvm.MethodName) prog_16_method_2_code (4 : Nat) (Option.some Jvm.ClassFile.FieldType.boolean)) ∈ lw_all := lw_g (lw_at lw_m6 111 rfl) rfl
theorem q1413 : (Jvm.Cond.methodLink "LandFolio$Reason$3" (7 : Nat) ({ cls := "LandFolio$Folio", name := "parcel", desc := "(I)LLandFolio$Parcel;" } : Jvm.MethodName)) ∈ lw_all := lw_g (lw_at lw_m6 112 rfl) rfl
theorem q1444 : (Jvm.Cond.selects "LandFolio$Reason$3" ({ cls := "LandFolio$Reason", name := "ordinal", desc := "()I" } : Jvm.MethodName) ({ cls := "java/lang/Enum", name := "ordinal", desc := "()I" } : Jvm.MethodName)) ∈ lw_all := lw_g (lw_at lw_m6 143 rfl) rfl
theorem q2637 : (Jvm.Cond.castable "LandFolio$Reason$3" "java/lang/Object") ∈ lw_tbl := lw_at lw_m11 136 rfl
theorem q2646 : (Jvm.Cond.castable "LandFolio$Reason$3" "LandFolio$Reason") ∈ lw_tbl := lw_at lw_m11 145 rfl
/-! LandFolio$Reason$4 -/
set_option maxRecDepth 100000
def RX17 : String := "LandFolio$Reason$4"
abbrev cX17_holds : ByteArray := prog_17_method_2_code
def yX17_holds : MethodName := ⟨RX17, "holds", "(LLandFolio$Folio;II)Z"⟩
def dkwX17_holds_0 : List UInt8 := [43, 28, 182, 0, 7, 43, 29, 182, 0, 7, 182, 0, 13, 154, 0, 7, 4, 167, 0, 4, 3, 172]
abbrev dktX17_holds_0 : List UInt8 := dkwX17_holds_0 ++ []
theorem dksX17_holds_0 : cX17_holds.data.toList.drop 0 = dktX17_holds_0 := by decide +kernel
theorem dX17_holds_0 : decode cX17_holds 0 = .ok (.aload_n 1, 1) := dk_43 (dk_at dksX17_holds_0 0 rfl rfl)
theorem dX17_holds_1 : decode cX17_holds 1 = .ok (.iload_n 2, 1) := dk_28 (dk_at dksX17_holds_0 1 rfl rfl)
theorem dX17_holds_2 : decode cX17_holds 2 = .ok (.invokevirtual 7, 3) := dk_182 0 7 (dk_at dksX17_holds_0 2 rfl rfl)
theorem dX17_holds_5 : decode cX17_holds 5 = .ok (.aload_n 1, 1) := dk_43 (dk_at dksX17_holds_0 5 rfl rfl)
theorem dX17_holds_6 : decode cX17_holds 6 = .ok (.iload_n 3, 1) := dk_29 (dk_at dksX17_holds_0 6 rfl rfl)
theorem dX17_holds_7 : decode cX17_holds 7 = .ok (.invokevirtual 7, 3) := dk_182 0 7 (dk_at dksX17_holds_0 7 rfl rfl)
theorem dX17_holds_10 : decode cX17_holds 10 = .ok (.invokevirtual 13, 3) := dk_182 0 13 (dk_at dksX17_holds_0 10 rfl rfl)
theorem dX17_holds_13 : decode cX17_holds 13 = .ok (.ifCond .ne 7, 3) := dk_154 0 7 (dk_at dksX17_holds_0 13 rfl rfl)
theorem dX17_holds_16 : decode cX17_holds 16 = .ok (.iconst 1, 1) := dk_4 (dk_at dksX17_holds_0 16 rfl rfl)
theorem dX17_holds_17 : decode cX17_holds 17 = .ok (.goto 4, 3) := dk_167 0 4 (dk_at dksX17_holds_0 17 rfl rfl)
theorem dX17_holds_20 : decode cX17_holds 20 = .ok (.iconst 0, 1) := dk_3 (dk_at dksX17_holds_0 20 rfl rfl)
theorem dX17_holds_21 : decode cX17_holds 21 = .ok (.ireturn, 1) := dk_172 (dk_at dksX17_holds_0 21 rfl rfl)
theorem q271 : (Jvm.Cond.selects "LandFolio$Reason$4" ({ cls := "java/lang/Object", name := "getClass", desc := "()Ljava/lang/Class;" } : Jvm.MethodName) ({ cls := "java/lang/Object", name := "getClass", desc := "()Ljava/lang/Class;" } : Jvm.MethodName)) ∈ lw_all := lw_g (lw_at lw_m1 170 rfl) rfl
theorem q1154 : (Jvm.Cond.selects "LandFolio$Reason$4" ({ cls := "java/lang/Object", name := "equals", desc := "(Ljava/lang/Object;)Z" } : Jvm.MethodName) ({ cls := "java/lang/Enum", name := "equals", desc := "(Ljava/lang/Object;)Z" } : Jvm.MethodName)) ∈ lw_all := lw_g (lw_at lw_m5 93 rfl) rfl
theorem q1414 : (Jvm.Cond.selects "LandFolio$Reason$4" ({ cls := "LandFolio$Reason", name := "holds", desc := "(LLandFolio$Folio;II)Z" } : Jvm.MethodName) ({ cls := "LandFolio$Reason$4", name := "holds", desc := "(LLandFolio$Folio;II)Z" } : Jvm.MethodName)) ∈ lw_all := lw_g (lw_at lw_m6 113 rfl) rfl
theorem q1415 : (Jvm.Cond.instanceMethod ({ cls := "LandFolio$Reason$4", name := "holds", desc := "(LLandFolio$Folio;II)Z" } : Jvm.MethodName)) ∈ lw_all := lw_g (lw_at lw_m6 114 rfl) rfl
theorem q1416 : (Jvm.Cond.code ({ cls := "LandFolio$Reason$4", name := "holds", desc := "(LLandFolio$Folio;II)Z" } : Jvm.MethodName) prog_17_method_2_code (4 : Nat) (Option.some Jvm.ClassFile.FieldType.boolean)) ∈ lw_all := lw_g (lw_at lw_m6 115 rfl) rfl
theorem q1417 : (Jvm.Cond.methodLink "LandFolio$Reason$4" (7 : Nat) ({ cls := "LandFolio$Folio", name := "parcel", desc := "(I)LLandFolio$Parcel;" } : Jvm.MethodName)) ∈ lw_all := lw_g (lw_at lw_m6 116 rfl) rfl
theorem q1418 : (Jvm.Cond.methodLink "LandFolio$Reason$4" (13 : Nat) ({ cls := "LandFolio$Parcel", name := "makesOblong", desc := "(LLandFolio$Parcel;)Z" } : Jvm.MethodName)) ∈ lw_all := lw_g (lw_at lw_m6 117 rfl) rfl
theorem q1445 : (Jvm.Cond.selects "LandFolio$Reason$4" ({ cls := "LandFolio$Reason", name := "ordinal", desc := "()I" } : Jvm.MethodName) ({ cls := "java/lang/Enum", name := "ordinal", desc := "()I" } : Jvm.MethodName)) ∈ lw_all := lw_g (lw_at lw_m6 144 rfl) rfl
theorem q2638 : (Jvm.Cond.castable "LandFolio$Reason$4" "java/lang/Object") ∈ lw_tbl := lw_at lw_m11 137 rfl
theorem q2647 : (Jvm.Cond.castable "LandFolio$Reason$4" "LandFolio$Reason") ∈ lw_tbl := lw_at lw_m11 146 rfl
/-! LandFolio$Reason$5 -/
set_option maxRecDepth 100000
def RX18 : String := "LandFolio$Reason$5"
abbrev cX18_holds : ByteArray := prog_18_method_2_code
def yX18_holds : MethodName := ⟨RX18, "holds", "(LLandFolio$Folio;II)Z"⟩
def dkwX18_holds_0 : List UInt8 := [43, 28, 182, 0, 7, 43, 29, 182, 0, 7, 182, 0, 13, 154, 0, 7, 4, 167, 0, 4, 3, 172]
abbrev dktX18_holds_0 : List UInt8 := dkwX18_holds_0 ++ []
theorem dksX18_holds_0 : cX18_holds.data.toList.drop 0 = dktX18_holds_0 := by decide +kernel
theorem dX18_holds_0 : decode cX18_holds 0 = .ok (.aload_n 1, 1) := dk_43 (dk_at dksX18_holds_0 0 rfl rfl)
theorem dX18_holds_1 : decode cX18_holds 1 = .ok (.iload_n 2, 1) := dk_28 (dk_at dksX18_holds_0 1 rfl rfl)
theorem dX18_holds_2 : decode cX18_holds 2 = .ok (.invokevirtual 7, 3) := dk_182 0 7 (dk_at dksX18_holds_0 2 rfl rfl)
theorem dX18_holds_5 : decode cX18_holds 5 = .ok (.aload_n 1, 1) := dk_43 (dk_at dksX18_holds_0 5 rfl rfl)
theorem dX18_holds_6 : decode cX18_holds 6 = .ok (.iload_n 3, 1) := dk_29 (dk_at dksX18_holds_0 6 rfl rfl)
theorem dX18_holds_7 : decode cX18_holds 7 = .ok (.invokevirtual 7, 3) := dk_182 0 7 (dk_at dksX18_holds_0 7 rfl rfl)
theorem dX18_holds_10 : decode cX18_holds 10 = .ok (.invokevirtual 13, 3) := dk_182 0 13 (dk_at dksX18_holds_0 10 rfl rfl)
theorem dX18_holds_13 : decode cX18_holds 13 = .ok (.ifCond .ne 7, 3) := dk_154 0 7 (dk_at dksX18_holds_0 13 rfl rfl)
theorem dX18_holds_16 : decode cX18_holds 16 = .ok (.iconst 1, 1) := dk_4 (dk_at dksX18_holds_0 16 rfl rfl)
theorem dX18_holds_17 : decode cX18_holds 17 = .ok (.goto 4, 3) := dk_167 0 4 (dk_at dksX18_holds_0 17 rfl rfl)
theorem dX18_holds_20 : decode cX18_holds 20 = .ok (.iconst 0, 1) := dk_3 (dk_at dksX18_holds_0 20 rfl rfl)
theorem dX18_holds_21 : decode cX18_holds 21 = .ok (.ireturn, 1) := dk_172 (dk_at dksX18_holds_0 21 rfl rfl)
theorem q272 : (Jvm.Cond.selects "LandFolio$Reason$5" ({ cls := "java/lang/Object", name := "getClass", desc := "()Ljava/lang/Class;" } : Jvm.MethodName) ({ cls := "java/lang/Object", name := "getClass", desc := "()Ljava/lang/Class;" } : Jvm.MethodName)) ∈ lw_all := lw_g (lw_at lw_m1 171 rfl) rfl
theorem q1155 : (Jvm.Cond.selects "LandFolio$Reason$5" ({ cls := "java/lang/Object", name := "equals", desc := "(Ljava/lang/Object;)Z" } : Jvm.MethodName) ({ cls := "java/lang/Enum", name := "equals", desc := "(Ljava/lang/Object;)Z" } : Jvm.MethodName)) ∈ lw_all := lw_g (lw_at lw_m5 94 rfl) rfl
theorem q1431 : (Jvm.Cond.selects "LandFolio$Reason$5" ({ cls := "LandFolio$Reason", name := "holds", desc := "(LLandFolio$Folio;II)Z" } : Jvm.MethodName) ({ cls := "LandFolio$Reason$5", name := "holds", desc := "(LLandFolio$Folio;II)Z" } : Jvm.MethodName)) ∈ lw_all := lw_g (lw_at lw_m6 130 rfl) rfl
theorem q1432 : (Jvm.Cond.instanceMethod ({ cls := "LandFolio$Reason$5", name := "holds", desc := "(LLandFolio$Folio;II)Z" } : Jvm.MethodName)) ∈ lw_all := lw_g (lw_at lw_m6 131 rfl) rfl
theorem q1433 : (Jvm.Cond.code ({ cls := "LandFolio$Reason$5", name := "holds", desc := "(LLandFolio$Folio;II)Z" } : Jvm.MethodName) prog_18_method_2_code (4 : Nat) (Option.some Jvm.ClassFile.FieldType.boolean)) ∈ lw_all := lw_g (lw_at lw_m6 132 rfl) rfl
theorem q1434 : (Jvm.Cond.methodLink "LandFolio$Reason$5" (7 : Nat) ({ cls := "LandFolio$Folio", name := "deed", desc := "(I)LLandFolio$Deed;" } : Jvm.MethodName)) ∈ lw_all := lw_g (lw_at lw_m6 133 rfl) rfl
theorem q1435 : (Jvm.Cond.methodLink "LandFolio$Reason$5" (13 : Nat) ({ cls := "LandFolio$Deed", name := "isAlike", desc := "(LLandFolio$Deed;)Z" } : Jvm.MethodName)) ∈ lw_all := lw_g (lw_at lw_m6 134 rfl) rfl
theorem q1446 : (Jvm.Cond.selects "LandFolio$Reason$5" ({ cls := "LandFolio$Reason", name := "ordinal", desc := "()I" } : Jvm.MethodName) ({ cls := "java/lang/Enum", name := "ordinal", desc := "()I" } : Jvm.MethodName)) ∈ lw_all := lw_g (lw_at lw_m6 145 rfl) rfl
theorem q2639 : (Jvm.Cond.castable "LandFolio$Reason$5" "java/lang/Object") ∈ lw_tbl := lw_at lw_m11 138 rfl
theorem q2648 : (Jvm.Cond.castable "LandFolio$Reason$5" "LandFolio$Reason") ∈ lw_tbl := lw_at lw_m11 147 rfl
