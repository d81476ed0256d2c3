/-! LandFolio -/
set_option maxRecDepth 100000
def RX0 : String := "LandFolio"
def TX0 : u_T := fun k => match k with
  | 0 => ("LandFolio", "folio", "LLandFolio$Folio;", false)
  | 1 => ("LandFolio", "undos", "Ljava/util/ArrayDeque;", true)
  | 2 => ("LandFolio", "slots", "[LLandFolio$Folio;", true)
  | 3 => ("LandFolio", "tape", "[B", true)
  | 4 => ("LandFolio", "taped", "I", false)
  | 5 => ("LandFolio", "errorAt", "I", false)
  | _ => ("LandFolio", "stepsTo", "[I", true)
def tyX0 : Nat → FieldType := fun k => match k with
  | 0 => .object "LandFolio$Folio"
  | 1 => .object "java/util/ArrayDeque"
  | 2 => .array (.object "LandFolio$Folio")
  | 3 => .array .byte
  | 4 => .int
  | 5 => .int
  | _ => .array .int
abbrev wsX00 : List Cond := u_ws RX0 TX0 7
theorem nmX0 : ∀ a, a < 7 → ∀ b, b < 7 → a ≠ b → (TX0 a).2.1 ≠ (TX0 b).2.1 := by decide +kernel
theorem tyX0_ok : ∀ k, k < 7 → parseFieldDescriptor (TX0 k).2.2.1 = some (tyX0 k) := by decide +kernel
abbrev cX0_init : ByteArray := prog_1_method_3_code
def yX0_init : MethodName := ⟨RX0, "<init>", "()V"⟩
def dkwX0_init_2 : List UInt8 := [188, 10, 181, 0, 55, 177]
abbrev dktX0_init_2 : List UInt8 := dkwX0_init_2 ++ []
def dkwX0_init_1 : List UInt8 := [189, 0, 1, 181, 0, 43, 42, 17, 3, 32, 188, 8, 181, 0, 47, 42, 16, 254, 181, 0, 51, 42, 16, 40]
abbrev dktX0_init_1 : List UInt8 := dkwX0_init_1 ++ dktX0_init_2
def dkwX0_init_0 : List UInt8 := [42, 183, 0, 23, 42, 184, 0, 26, 181, 0, 32, 42, 187, 0, 36, 89, 183, 0, 38, 181, 0, 39, 42, 5]
abbrev dktX0_init_0 : List UInt8 := dkwX0_init_0 ++ dktX0_init_1
theorem dksX0_init_0 : cX0_init.data.toList.drop 0 = dktX0_init_0 := by decide +kernel
theorem dksX0_init_1 : cX0_init.data.toList.drop 24 = dktX0_init_1 := dk_seg dksX0_init_0 24 rfl rfl
theorem dksX0_init_2 : cX0_init.data.toList.drop 48 = dktX0_init_2 := dk_seg dksX0_init_1 24 rfl rfl
theorem dX0_init_0 : decode cX0_init 0 = .ok (.aload_n 0, 1) := dk_42 (dk_at dksX0_init_0 0 rfl rfl)
theorem dX0_init_1 : decode cX0_init 1 = .ok (.invokespecial 23, 3) := dk_183 0 23 (dk_at dksX0_init_0 1 rfl rfl)
theorem dX0_init_4 : decode cX0_init 4 = .ok (.aload_n 0, 1) := dk_42 (dk_at dksX0_init_0 4 rfl rfl)
theorem dX0_init_5 : decode cX0_init 5 = .ok (.invokestatic 26, 3) := dk_184 0 26 (dk_at dksX0_init_0 5 rfl rfl)
theorem dX0_init_8 : decode cX0_init 8 = .ok (.putfield 32, 3) := dk_181 0 32 (dk_at dksX0_init_0 8 rfl rfl)
theorem dX0_init_11 : decode cX0_init 11 = .ok (.aload_n 0, 1) := dk_42 (dk_at dksX0_init_0 11 rfl rfl)
theorem dX0_init_12 : decode cX0_init 12 = .ok (.new 36, 3) := dk_187 0 36 (dk_at dksX0_init_0 12 rfl rfl)
theorem dX0_init_15 : decode cX0_init 15 = .ok (.dup, 1) := dk_89 (dk_at dksX0_init_0 15 rfl rfl)
theorem dX0_init_16 : decode cX0_init 16 = .ok (.invokespecial 38, 3) := dk_183 0 38 (dk_at dksX0_init_0 16 rfl rfl)
theorem dX0_init_19 : decode cX0_init 19 = .ok (.putfield 39, 3) := dk_181 0 39 (dk_at dksX0_init_0 19 rfl rfl)
theorem dX0_init_22 : decode cX0_init 22 = .ok (.aload_n 0, 1) := dk_42 (dk_at dksX0_init_0 22 rfl rfl)
theorem dX0_init_23 : decode cX0_init 23 = .ok (.iconst 2, 1) := dk_5 (dk_at dksX0_init_0 23 rfl rfl)
theorem dX0_init_24 : decode cX0_init 24 = .ok (.anewarray 1, 3) := dk_189 0 1 (dk_at dksX0_init_1 0 rfl rfl)
theorem dX0_init_27 : decode cX0_init 27 = .ok (.putfield 43, 3) := dk_181 0 43 (dk_at dksX0_init_1 3 rfl rfl)
theorem dX0_init_30 : decode cX0_init 30 = .ok (.aload_n 0, 1) := dk_42 (dk_at dksX0_init_1 6 rfl rfl)
theorem dX0_init_31 : decode cX0_init 31 = .ok (.sipush 800, 3) := dk_17 3 32 (dk_at dksX0_init_1 7 rfl rfl)
theorem dX0_init_34 : decode cX0_init 34 = .ok (.newarray .byte, 2) := dk_188_8 (dk_at dksX0_init_1 10 rfl rfl)
theorem dX0_init_36 : decode cX0_init 36 = .ok (.putfield 47, 3) := dk_181 0 47 (dk_at dksX0_init_1 12 rfl rfl)
theorem dX0_init_39 : decode cX0_init 39 = .ok (.aload_n 0, 1) := dk_42 (dk_at dksX0_init_1 15 rfl rfl)
theorem dX0_init_40 : decode cX0_init 40 = .ok (.bipush (-2), 2) := dk_16 254 (dk_at dksX0_init_1 16 rfl rfl)
theorem dX0_init_42 : decode cX0_init 42 = .ok (.putfield 51, 3) := dk_181 0 51 (dk_at dksX0_init_1 18 rfl rfl)
theorem dX0_init_45 : decode cX0_init 45 = .ok (.aload_n 0, 1) := dk_42 (dk_at dksX0_init_1 21 rfl rfl)
theorem dX0_init_46 : decode cX0_init 46 = .ok (.bipush 40, 2) := dk_16 40 (dk_at dksX0_init_1 22 rfl rfl)
theorem dX0_init_48 : decode cX0_init 48 = .ok (.newarray .int, 2) := dk_188_10 (dk_at dksX0_init_2 0 rfl rfl)
theorem dX0_init_50 : decode cX0_init 50 = .ok (.putfield 55, 3) := dk_181 0 55 (dk_at dksX0_init_2 2 rfl rfl)
theorem dX0_init_53 : decode cX0_init 53 = .ok (.return_, 1) := dk_177 (dk_at dksX0_init_2 5 rfl rfl)
abbrev cX0_first : ByteArray := prog_1_method_2_code
def yX0_first : MethodName := ⟨RX0, "first", "()LLandFolio$Folio;"⟩
def dkwX0_first_1 : List UInt8 := [16, 10, 182, 0, 19, 42, 176]
abbrev dktX0_first_1 : List UInt8 := dkwX0_first_1 ++ []
def dkwX0_first_0 : List UInt8 := [187, 0, 1, 89, 183, 0, 3, 75, 42, 180, 0, 7, 18, 11, 182, 0, 13, 87, 42, 16, 8, 16, 6]
abbrev dktX0_first_0 : List UInt8 := dkwX0_first_0 ++ dktX0_first_1
theorem dksX0_first_0 : cX0_first.data.toList.drop 0 = dktX0_first_0 := by decide +kernel
theorem dksX0_first_1 : cX0_first.data.toList.drop 23 = dktX0_first_1 := dk_seg dksX0_first_0 23 rfl rfl
theorem dX0_first_0 : decode cX0_first 0 = .ok (.new 1, 3) := dk_187 0 1 (dk_at dksX0_first_0 0 rfl rfl)
theorem dX0_first_3 : decode cX0_first 3 = .ok (.dup, 1) := dk_89 (dk_at dksX0_first_0 3 rfl rfl)
theorem dX0_first_4 : decode cX0_first 4 = .ok (.invokespecial 3, 3) := dk_183 0 3 (dk_at dksX0_first_0 4 rfl rfl)
theorem dX0_first_7 : decode cX0_first 7 = .ok (.astore_n 0, 1) := dk_75 (dk_at dksX0_first_0 7 rfl rfl)
theorem dX0_first_8 : decode cX0_first 8 = .ok (.aload_n 0, 1) := dk_42 (dk_at dksX0_first_0 8 rfl rfl)
theorem dX0_first_9 : decode cX0_first 9 = .ok (.getfield 7, 3) := dk_180 0 7 (dk_at dksX0_first_0 9 rfl rfl)
theorem dX0_first_12 : decode cX0_first 12 = .ok (.ldc 11, 2) := dk_18 11 (dk_at dksX0_first_0 12 rfl rfl)
theorem dX0_first_14 : decode cX0_first 14 = .ok (.invokevirtual 13, 3) := dk_182 0 13 (dk_at dksX0_first_0 14 rfl rfl)
theorem dX0_first_17 : decode cX0_first 17 = .ok (.pop, 1) := dk_87 (dk_at dksX0_first_0 17 rfl rfl)
theorem dX0_first_18 : decode cX0_first 18 = .ok (.aload_n 0, 1) := dk_42 (dk_at dksX0_first_0 18 rfl rfl)
theorem dX0_first_19 : decode cX0_first 19 = .ok (.bipush 8, 2) := dk_16 8 (dk_at dksX0_first_0 19 rfl rfl)
theorem dX0_first_21 : decode cX0_first 21 = .ok (.bipush 6, 2) := dk_16 6 (dk_at dksX0_first_0 21 rfl rfl)
theorem dX0_first_23 : decode cX0_first 23 = .ok (.bipush 10, 2) := dk_16 10 (dk_at dksX0_first_1 0 rfl rfl)
theorem dX0_first_25 : decode cX0_first 25 = .ok (.invokevirtual 19, 3) := dk_182 0 19 (dk_at dksX0_first_1 2 rfl rfl)
theorem dX0_first_28 : decode cX0_first 28 = .ok (.aload_n 0, 1) := dk_42 (dk_at dksX0_first_1 5 rfl rfl)
theorem dX0_first_29 : decode cX0_first 29 = .ok (.areturn, 1) := dk_176 (dk_at dksX0_first_1 6 rfl rfl)
abbrev cX0_undo : ByteArray := prog_1_method_5_code
def yX0_undo : MethodName := ⟨RX0, "undo", "()I"⟩
def dkwX0_undo_1 : List UInt8 := [181, 0, 32, 42, 180, 0, 39, 182, 0, 59, 172]
abbrev dktX0_undo_1 : List UInt8 := dkwX0_undo_1 ++ []
def dkwX0_undo_0 : List UInt8 := [42, 180, 0, 39, 182, 0, 71, 153, 0, 5, 2, 172, 42, 42, 180, 0, 39, 182, 0, 75, 192, 0, 1]
abbrev dktX0_undo_0 : List UInt8 := dkwX0_undo_0 ++ dktX0_undo_1
theorem dksX0_undo_0 : cX0_undo.data.toList.drop 0 = dktX0_undo_0 := by decide +kernel
theorem dksX0_undo_1 : cX0_undo.data.toList.drop 23 = dktX0_undo_1 := dk_seg dksX0_undo_0 23 rfl rfl
theorem dX0_undo_0 : decode cX0_undo 0 = .ok (.aload_n 0, 1) := dk_42 (dk_at dksX0_undo_0 0 rfl rfl)
theorem dX0_undo_1 : decode cX0_undo 1 = .ok (.getfield 39, 3) := dk_180 0 39 (dk_at dksX0_undo_0 1 rfl rfl)
theorem dX0_undo_4 : decode cX0_undo 4 = .ok (.invokevirtual 71, 3) := dk_182 0 71 (dk_at dksX0_undo_0 4 rfl rfl)
theorem dX0_undo_7 : decode cX0_undo 7 = .ok (.ifCond .eq 5, 3) := dk_153 0 5 (dk_at dksX0_undo_0 7 rfl rfl)
theorem dX0_undo_10 : decode cX0_undo 10 = .ok (.iconst (-1), 1) := dk_2 (dk_at dksX0_undo_0 10 rfl rfl)
theorem dX0_undo_11 : decode cX0_undo 11 = .ok (.ireturn, 1) := dk_172 (dk_at dksX0_undo_0 11 rfl rfl)
theorem dX0_undo_12 : decode cX0_undo 12 = .ok (.aload_n 0, 1) := dk_42 (dk_at dksX0_undo_0 12 rfl rfl)
theorem dX0_undo_13 : decode cX0_undo 13 = .ok (.aload_n 0, 1) := dk_42 (dk_at dksX0_undo_0 13 rfl rfl)
theorem dX0_undo_14 : decode cX0_undo 14 = .ok (.getfield 39, 3) := dk_180 0 39 (dk_at dksX0_undo_0 14 rfl rfl)
theorem dX0_undo_17 : decode cX0_undo 17 = .ok (.invokevirtual 75, 3) := dk_182 0 75 (dk_at dksX0_undo_0 17 rfl rfl)
theorem dX0_undo_20 : decode cX0_undo 20 = .ok (.checkcast 1, 3) := dk_192 0 1 (dk_at dksX0_undo_0 20 rfl rfl)
theorem dX0_undo_23 : decode cX0_undo 23 = .ok (.putfield 32, 3) := dk_181 0 32 (dk_at dksX0_undo_1 0 rfl rfl)
theorem dX0_undo_26 : decode cX0_undo 26 = .ok (.aload_n 0, 1) := dk_42 (dk_at dksX0_undo_1 3 rfl rfl)
theorem dX0_undo_27 : decode cX0_undo 27 = .ok (.getfield 39, 3) := dk_180 0 39 (dk_at dksX0_undo_1 4 rfl rfl)
theorem dX0_undo_30 : decode cX0_undo 30 = .ok (.invokevirtual 59, 3) := dk_182 0 59 (dk_at dksX0_undo_1 7 rfl rfl)
theorem dX0_undo_33 : decode cX0_undo 33 = .ok (.ireturn, 1) := dk_172 (dk_at dksX0_undo_1 10 rfl rfl)
abbrev cX0_keep : ByteArray := prog_1_method_7_code
def yX0_keep : MethodName := ⟨RX0, "keep", "(I)I"⟩
def dkwX0_keep_1 : List UInt8 := [180, 0, 32, 180, 0, 89, 182, 0, 92, 172]
abbrev dktX0_keep_1 : List UInt8 := dkwX0_keep_1 ++ []
def dkwX0_keep_0 : List UInt8 := [27, 184, 0, 82, 154, 0, 5, 2, 172, 42, 180, 0, 43, 27, 42, 180, 0, 32, 182, 0, 86, 83, 42]
abbrev dktX0_keep_0 : List UInt8 := dkwX0_keep_0 ++ dktX0_keep_1
theorem dksX0_keep_0 : cX0_keep.data.toList.drop 0 = dktX0_keep_0 := by decide +kernel
theorem dksX0_keep_1 : cX0_keep.data.toList.drop 23 = dktX0_keep_1 := dk_seg dksX0_keep_0 23 rfl rfl
theorem dX0_keep_0 : decode cX0_keep 0 = .ok (.iload_n 1, 1) := dk_27 (dk_at dksX0_keep_0 0 rfl rfl)
theorem dX0_keep_1 : decode cX0_keep 1 = .ok (.invokestatic 82, 3) := dk_184 0 82 (dk_at dksX0_keep_0 1 rfl rfl)
theorem dX0_keep_4 : decode cX0_keep 4 = .ok (.ifCond .ne 5, 3) := dk_154 0 5 (dk_at dksX0_keep_0 4 rfl rfl)
theorem dX0_keep_7 : decode cX0_keep 7 = .ok (.iconst (-1), 1) := dk_2 (dk_at dksX0_keep_0 7 rfl rfl)
theorem dX0_keep_8 : decode cX0_keep 8 = .ok (.ireturn, 1) := dk_172 (dk_at dksX0_keep_0 8 rfl rfl)
theorem dX0_keep_9 : decode cX0_keep 9 = .ok (.aload_n 0, 1) := dk_42 (dk_at dksX0_keep_0 9 rfl rfl)
theorem dX0_keep_10 : decode cX0_keep 10 = .ok (.getfield 43, 3) := dk_180 0 43 (dk_at dksX0_keep_0 10 rfl rfl)
theorem dX0_keep_13 : decode cX0_keep 13 = .ok (.iload_n 1, 1) := dk_27 (dk_at dksX0_keep_0 13 rfl rfl)
theorem dX0_keep_14 : decode cX0_keep 14 = .ok (.aload_n 0, 1) := dk_42 (dk_at dksX0_keep_0 14 rfl rfl)
theorem dX0_keep_15 : decode cX0_keep 15 = .ok (.getfield 32, 3) := dk_180 0 32 (dk_at dksX0_keep_0 15 rfl rfl)
theorem dX0_keep_18 : decode cX0_keep 18 = .ok (.invokevirtual 86, 3) := dk_182 0 86 (dk_at dksX0_keep_0 18 rfl rfl)
theorem dX0_keep_21 : decode cX0_keep 21 = .ok (.aastore, 1) := dk_83 (dk_at dksX0_keep_0 21 rfl rfl)
theorem dX0_keep_22 : decode cX0_keep 22 = .ok (.aload_n 0, 1) := dk_42 (dk_at dksX0_keep_0 22 rfl rfl)
theorem dX0_keep_23 : decode cX0_keep 23 = .ok (.getfield 32, 3) := dk_180 0 32 (dk_at dksX0_keep_1 0 rfl rfl)
theorem dX0_keep_26 : decode cX0_keep 26 = .ok (.getfield 89, 3) := dk_180 0 89 (dk_at dksX0_keep_1 3 rfl rfl)
theorem dX0_keep_29 : decode cX0_keep 29 = .ok (.invokevirtual 92, 3) := dk_182 0 92 (dk_at dksX0_keep_1 6 rfl rfl)
theorem dX0_keep_32 : decode cX0_keep 32 = .ok (.ireturn, 1) := dk_172 (dk_at dksX0_keep_1 9 rfl rfl)
abbrev cX0_isSlot : ByteArray := prog_1_method_6_code
def yX0_isSlot : MethodName := ⟨RX0, "isSlot", "(I)Z"⟩
def dkwX0_isSlot_0 : List UInt8 := [26, 3, 4, 184, 0, 78, 172]
abbrev dktX0_isSlot_0 : List UInt8 := dkwX0_isSlot_0 ++ []
theorem dksX0_isSlot_0 : cX0_isSlot.data.toList.drop 0 = dktX0_isSlot_0 := by decide +kernel
theorem dX0_isSlot_0 : decode cX0_isSlot 0 = .ok (.iload_n 0, 1) := dk_26 (dk_at dksX0_isSlot_0 0 rfl rfl)
theorem dX0_isSlot_1 : decode cX0_isSlot 1 = .ok (.iconst 0, 1) := dk_3 (dk_at dksX0_isSlot_0 1 rfl rfl)
theorem dX0_isSlot_2 : decode cX0_isSlot 2 = .ok (.iconst 1, 1) := dk_4 (dk_at dksX0_isSlot_0 2 rfl rfl)
theorem dX0_isSlot_3 : decode cX0_isSlot 3 = .ok (.invokestatic 78, 3) := dk_184 0 78 (dk_at dksX0_isSlot_0 3 rfl rfl)
theorem dX0_isSlot_6 : decode cX0_isSlot 6 = .ok (.ireturn, 1) := dk_172 (dk_at dksX0_isSlot_0 6 rfl rfl)
abbrev cX0_isIn : ByteArray := prog_1_method_1_code
def yX0_isIn : MethodName := ⟨RX0, "isIn", "(III)Z"⟩
def dkwX0_isIn_0 : List UInt8 := [26, 27, 161, 0, 12, 26, 28, 163, 0, 7, 4, 167, 0, 4, 3, 172]
abbrev dktX0_isIn_0 : List UInt8 := dkwX0_isIn_0 ++ []
theorem dksX0_isIn_0 : cX0_isIn.data.toList.drop 0 = dktX0_isIn_0 := by decide +kernel
theorem dX0_isIn_0 : decode cX0_isIn 0 = .ok (.iload_n 0, 1) := dk_26 (dk_at dksX0_isIn_0 0 rfl rfl)
theorem dX0_isIn_1 : decode cX0_isIn 1 = .ok (.iload_n 1, 1) := dk_27 (dk_at dksX0_isIn_0 1 rfl rfl)
theorem dX0_isIn_2 : decode cX0_isIn 2 = .ok (.if_icmp .lt 12, 3) := dk_161 0 12 (dk_at dksX0_isIn_0 2 rfl rfl)
theorem dX0_isIn_5 : decode cX0_isIn 5 = .ok (.iload_n 0, 1) := dk_26 (dk_at dksX0_isIn_0 5 rfl rfl)
theorem dX0_isIn_6 : decode cX0_isIn 6 = .ok (.iload_n 2, 1) := dk_28 (dk_at dksX0_isIn_0 6 rfl rfl)
theorem dX0_isIn_7 : decode cX0_isIn 7 = .ok (.if_icmp .gt 7, 3) := dk_163 0 7 (dk_at dksX0_isIn_0 7 rfl rfl)
theorem dX0_isIn_10 : decode cX0_isIn 10 = .ok (.iconst 1, 1) := dk_4 (dk_at dksX0_isIn_0 10 rfl rfl)
theorem dX0_isIn_11 : decode cX0_isIn 11 = .ok (.goto 4, 3) := dk_167 0 4 (dk_at dksX0_isIn_0 11 rfl rfl)
theorem dX0_isIn_14 : decode cX0_isIn 14 = .ok (.iconst 0, 1) := dk_3 (dk_at dksX0_isIn_0 14 rfl rfl)
theorem dX0_isIn_15 : decode cX0_isIn 15 = .ok (.ireturn, 1) := dk_172 (dk_at dksX0_isIn_0 15 rfl rfl)
abbrev cX0_restore : ByteArray := prog_1_method_8_code
def yX0_restore : MethodName := ⟨RX0, "restore", "(I)I"⟩
def dkwX0_restore_2 : List UInt8 := [180, 0, 89, 182, 0, 92, 182, 0, 93, 172]
abbrev dktX0_restore_2 : List UInt8 := dkwX0_restore_2 ++ []
def dkwX0_restore_1 : List UInt8 := [180, 0, 32, 77, 42, 42, 180, 0, 43, 27, 50, 182, 0, 86, 181, 0, 32, 42, 44, 42, 180, 0, 32]
abbrev dktX0_restore_1 : List UInt8 := dkwX0_restore_1 ++ dktX0_restore_2
def dkwX0_restore_0 : List UInt8 := [27, 184, 0, 82, 154, 0, 5, 2, 172, 42, 180, 0, 43, 27, 50, 199, 0, 6, 16, 254, 172, 42]
abbrev dktX0_restore_0 : List UInt8 := dkwX0_restore_0 ++ dktX0_restore_1
theorem dksX0_restore_0 : cX0_restore.data.toList.drop 0 = dktX0_restore_0 := by decide +kernel
theorem dksX0_restore_1 : cX0_restore.data.toList.drop 22 = dktX0_restore_1 := dk_seg dksX0_restore_0 22 rfl rfl
theorem dksX0_restore_2 : cX0_restore.data.toList.drop 45 = dktX0_restore_2 := dk_seg dksX0_restore_1 23 rfl rfl
theorem dX0_restore_0 : decode cX0_restore 0 = .ok (.iload_n 1, 1) := dk_27 (dk_at dksX0_restore_0 0 rfl rfl)
theorem dX0_restore_1 : decode cX0_restore 1 = .ok (.invokestatic 82, 3) := dk_184 0 82 (dk_at dksX0_restore_0 1 rfl rfl)
theorem dX0_restore_4 : decode cX0_restore 4 = .ok (.ifCond .ne 5, 3) := dk_154 0 5 (dk_at dksX0_restore_0 4 rfl rfl)
theorem dX0_restore_7 : decode cX0_restore 7 = .ok (.iconst (-1), 1) := dk_2 (dk_at dksX0_restore_0 7 rfl rfl)
theorem dX0_restore_8 : decode cX0_restore 8 = .ok (.ireturn, 1) := dk_172 (dk_at dksX0_restore_0 8 rfl rfl)
theorem dX0_restore_9 : decode cX0_restore 9 = .ok (.aload_n 0, 1) := dk_42 (dk_at dksX0_restore_0 9 rfl rfl)
theorem dX0_restore_10 : decode cX0_restore 10 = .ok (.getfield 43, 3) := dk_180 0 43 (dk_at dksX0_restore_0 10 rfl rfl)
theorem dX0_restore_13 : decode cX0_restore 13 = .ok (.iload_n 1, 1) := dk_27 (dk_at dksX0_restore_0 13 rfl rfl)
theorem dX0_restore_14 : decode cX0_restore 14 = .ok (.aaload, 1) := dk_50 (dk_at dksX0_restore_0 14 rfl rfl)
theorem dX0_restore_15 : decode cX0_restore 15 = .ok (.ifnonnull 6, 3) := dk_199 0 6 (dk_at dksX0_restore_0 15 rfl rfl)
theorem dX0_restore_18 : decode cX0_restore 18 = .ok (.bipush (-2), 2) := dk_16 254 (dk_at dksX0_restore_0 18 rfl rfl)
theorem dX0_restore_20 : decode cX0_restore 20 = .ok (.ireturn, 1) := dk_172 (dk_at dksX0_restore_0 20 rfl rfl)
theorem dX0_restore_21 : decode cX0_restore 21 = .ok (.aload_n 0, 1) := dk_42 (dk_at dksX0_restore_0 21 rfl rfl)
theorem dX0_restore_22 : decode cX0_restore 22 = .ok (.getfield 32, 3) := dk_180 0 32 (dk_at dksX0_restore_1 0 rfl rfl)
theorem dX0_restore_25 : decode cX0_restore 25 = .ok (.astore_n 2, 1) := dk_77 (dk_at dksX0_restore_1 3 rfl rfl)
theorem dX0_restore_26 : decode cX0_restore 26 = .ok (.aload_n 0, 1) := dk_42 (dk_at dksX0_restore_1 4 rfl rfl)
theorem dX0_restore_27 : decode cX0_restore 27 = .ok (.aload_n 0, 1) := dk_42 (dk_at dksX0_restore_1 5 rfl rfl)
theorem dX0_restore_28 : decode cX0_restore 28 = .ok (.getfield 43, 3) := dk_180 0 43 (dk_at dksX0_restore_1 6 rfl rfl)
theorem dX0_restore_31 : decode cX0_restore 31 = .ok (.iload_n 1, 1) := dk_27 (dk_at dksX0_restore_1 9 rfl rfl)
theorem dX0_restore_32 : decode cX0_restore 32 = .ok (.aaload, 1) := dk_50 (dk_at dksX0_restore_1 10 rfl rfl)
theorem dX0_restore_33 : decode cX0_restore 33 = .ok (.invokevirtual 86, 3) := dk_182 0 86 (dk_at dksX0_restore_1 11 rfl rfl)
theorem dX0_restore_36 : decode cX0_restore 36 = .ok (.putfield 32, 3) := dk_181 0 32 (dk_at dksX0_restore_1 14 rfl rfl)
theorem dX0_restore_39 : decode cX0_restore 39 = .ok (.aload_n 0, 1) := dk_42 (dk_at dksX0_restore_1 17 rfl rfl)
theorem dX0_restore_40 : decode cX0_restore 40 = .ok (.aload_n 2, 1) := dk_44 (dk_at dksX0_restore_1 18 rfl rfl)
theorem dX0_restore_41 : decode cX0_restore 41 = .ok (.aload_n 0, 1) := dk_42 (dk_at dksX0_restore_1 19 rfl rfl)
theorem dX0_restore_42 : decode cX0_restore 42 = .ok (.getfield 32, 3) := dk_180 0 32 (dk_at dksX0_restore_1 20 rfl rfl)
theorem dX0_restore_45 : decode cX0_restore 45 = .ok (.getfield 89, 3) := dk_180 0 89 (dk_at dksX0_restore_2 0 rfl rfl)
theorem dX0_restore_48 : decode cX0_restore 48 = .ok (.invokevirtual 92, 3) := dk_182 0 92 (dk_at dksX0_restore_2 3 rfl rfl)
theorem dX0_restore_51 : decode cX0_restore 51 = .ok (.invokevirtual 93, 3) := dk_182 0 93 (dk_at dksX0_restore_2 6 rfl rfl)
theorem dX0_restore_54 : decode cX0_restore 54 = .ok (.ireturn, 1) := dk_172 (dk_at dksX0_restore_2 9 rfl rfl)
abbrev cX0_done : ByteArray := prog_1_method_4_code
def yX0_done : MethodName := ⟨RX0, "done", "(LLandFolio$Folio;I)I"⟩
def dkwX0_done_1 : List UInt8 := [180, 0, 39, 43, 182, 0, 67, 28, 172]
abbrev dktX0_done_1 : List UInt8 := dkwX0_done_1 ++ []
def dkwX0_done_0 : List UInt8 := [42, 180, 0, 39, 182, 0, 59, 16, 8, 160, 0, 14, 42, 180, 0, 39, 182, 0, 63, 192, 0, 1, 78, 42]
abbrev dktX0_done_0 : List UInt8 := dkwX0_done_0 ++ dktX0_done_1
theorem dksX0_done_0 : cX0_done.data.toList.drop 0 = dktX0_done_0 := by decide +kernel
theorem dksX0_done_1 : cX0_done.data.toList.drop 24 = dktX0_done_1 := dk_seg dksX0_done_0 24 rfl rfl
theorem dX0_done_0 : decode cX0_done 0 = .ok (.aload_n 0, 1) := dk_42 (dk_at dksX0_done_0 0 rfl rfl)
theorem dX0_done_1 : decode cX0_done 1 = .ok (.getfield 39, 3) := dk_180 0 39 (dk_at dksX0_done_0 1 rfl rfl)
theorem dX0_done_4 : decode cX0_done 4 = .ok (.invokevirtual 59, 3) := dk_182 0 59 (dk_at dksX0_done_0 4 rfl rfl)
theorem dX0_done_7 : decode cX0_done 7 = .ok (.bipush 8, 2) := dk_16 8 (dk_at dksX0_done_0 7 rfl rfl)
theorem dX0_done_9 : decode cX0_done 9 = .ok (.if_icmp .ne 14, 3) := dk_160 0 14 (dk_at dksX0_done_0 9 rfl rfl)
theorem dX0_done_12 : decode cX0_done 12 = .ok (.aload_n 0, 1) := dk_42 (dk_at dksX0_done_0 12 rfl rfl)
theorem dX0_done_13 : decode cX0_done 13 = .ok (.getfield 39, 3) := dk_180 0 39 (dk_at dksX0_done_0 13 rfl rfl)
theorem dX0_done_16 : decode cX0_done 16 = .ok (.invokevirtual 63, 3) := dk_182 0 63 (dk_at dksX0_done_0 16 rfl rfl)
theorem dX0_done_19 : decode cX0_done 19 = .ok (.checkcast 1, 3) := dk_192 0 1 (dk_at dksX0_done_0 19 rfl rfl)
theorem dX0_done_22 : decode cX0_done 22 = .ok (.astore_n 3, 1) := dk_78 (dk_at dksX0_done_0 22 rfl rfl)
theorem dX0_done_23 : decode cX0_done 23 = .ok (.aload_n 0, 1) := dk_42 (dk_at dksX0_done_0 23 rfl rfl)
theorem dX0_done_24 : decode cX0_done 24 = .ok (.getfield 39, 3) := dk_180 0 39 (dk_at dksX0_done_1 0 rfl rfl)
theorem dX0_done_27 : decode cX0_done 27 = .ok (.aload_n 1, 1) := dk_43 (dk_at dksX0_done_1 3 rfl rfl)
theorem dX0_done_28 : decode cX0_done 28 = .ok (.invokevirtual 67, 3) := dk_182 0 67 (dk_at dksX0_done_1 4 rfl rfl)
theorem dX0_done_31 : decode cX0_done 31 = .ok (.iload_n 2, 1) := dk_28 (dk_at dksX0_done_1 7 rfl rfl)
theorem dX0_done_32 : decode cX0_done 32 = .ok (.ireturn, 1) := dk_172 (dk_at dksX0_done_1 8 rfl rfl)
abbrev cX0_append : ByteArray := prog_1_method_16_code
def yX0_append : MethodName := ⟨RX0, "append", "(IIIII)I"⟩
def dkwX0_append_2 : List UInt8 := [172]
abbrev dktX0_append_2 : List UInt8 := dkwX0_append_2 ++ []
def dkwX0_append_1 : List UInt8 := [182, 0, 127, 42, 29, 182, 0, 127, 42, 21, 4, 182, 0, 127, 42, 21, 5, 182, 0, 127, 42, 180, 0, 124]
abbrev dktX0_append_1 : List UInt8 := dkwX0_append_1 ++ dktX0_append_2
def dkwX0_append_0 : List UInt8 := [42, 180, 0, 124, 16, 20, 96, 17, 3, 32, 164, 0, 5, 2, 172, 42, 27, 182, 0, 127, 42, 28]
abbrev dktX0_append_0 : List UInt8 := dkwX0_append_0 ++ dktX0_append_1
theorem dksX0_append_0 : cX0_append.data.toList.drop 0 = dktX0_append_0 := by decide +kernel
theorem dksX0_append_1 : cX0_append.data.toList.drop 22 = dktX0_append_1 := dk_seg dksX0_append_0 22 rfl rfl
theorem dksX0_append_2 : cX0_append.data.toList.drop 46 = dktX0_append_2 := dk_seg dksX0_append_1 24 rfl rfl
theorem dX0_append_0 : decode cX0_append 0 = .ok (.aload_n 0, 1) := dk_42 (dk_at dksX0_append_0 0 rfl rfl)
theorem dX0_append_1 : decode cX0_append 1 = .ok (.getfield 124, 3) := dk_180 0 124 (dk_at dksX0_append_0 1 rfl rfl)
theorem dX0_append_4 : decode cX0_append 4 = .ok (.bipush 20, 2) := dk_16 20 (dk_at dksX0_append_0 4 rfl rfl)
theorem dX0_append_6 : decode cX0_append 6 = .ok (.iadd, 1) := dk_96 (dk_at dksX0_append_0 6 rfl rfl)
theorem dX0_append_7 : decode cX0_append 7 = .ok (.sipush 800, 3) := dk_17 3 32 (dk_at dksX0_append_0 7 rfl rfl)
theorem dX0_append_10 : decode cX0_append 10 = .ok (.if_icmp .le 5, 3) := dk_164 0 5 (dk_at dksX0_append_0 10 rfl rfl)
theorem dX0_append_13 : decode cX0_append 13 = .ok (.iconst (-1), 1) := dk_2 (dk_at dksX0_append_0 13 rfl rfl)
theorem dX0_append_14 : decode cX0_append 14 = .ok (.ireturn, 1) := dk_172 (dk_at dksX0_append_0 14 rfl rfl)
theorem dX0_append_15 : decode cX0_append 15 = .ok (.aload_n 0, 1) := dk_42 (dk_at dksX0_append_0 15 rfl rfl)
theorem dX0_append_16 : decode cX0_append 16 = .ok (.iload_n 1, 1) := dk_27 (dk_at dksX0_append_0 16 rfl rfl)
theorem dX0_append_17 : decode cX0_append 17 = .ok (.invokevirtual 127, 3) := dk_182 0 127 (dk_at dksX0_append_0 17 rfl rfl)
theorem dX0_append_20 : decode cX0_append 20 = .ok (.aload_n 0, 1) := dk_42 (dk_at dksX0_append_0 20 rfl rfl)
theorem dX0_append_21 : decode cX0_append 21 = .ok (.iload_n 2, 1) := dk_28 (dk_at dksX0_append_0 21 rfl rfl)
theorem dX0_append_22 : decode cX0_append 22 = .ok (.invokevirtual 127, 3) := dk_182 0 127 (dk_at dksX0_append_1 0 rfl rfl)
theorem dX0_append_25 : decode cX0_append 25 = .ok (.aload_n 0, 1) := dk_42 (dk_at dksX0_append_1 3 rfl rfl)
theorem dX0_append_26 : decode cX0_append 26 = .ok (.iload_n 3, 1) := dk_29 (dk_at dksX0_append_1 4 rfl rfl)
theorem dX0_append_27 : decode cX0_append 27 = .ok (.invokevirtual 127, 3) := dk_182 0 127 (dk_at dksX0_append_1 5 rfl rfl)
theorem dX0_append_30 : decode cX0_append 30 = .ok (.aload_n 0, 1) := dk_42 (dk_at dksX0_append_1 8 rfl rfl)
theorem dX0_append_31 : decode cX0_append 31 = .ok (.iload 4, 2) := dk_21 4 (dk_at dksX0_append_1 9 rfl rfl)
theorem dX0_append_33 : decode cX0_append 33 = .ok (.invokevirtual 127, 3) := dk_182 0 127 (dk_at dksX0_append_1 11 rfl rfl)
theorem dX0_append_36 : decode cX0_append 36 = .ok (.aload_n 0, 1) := dk_42 (dk_at dksX0_append_1 14 rfl rfl)
theorem dX0_append_37 : decode cX0_append 37 = .ok (.iload 5, 2) := dk_21 5 (dk_at dksX0_append_1 15 rfl rfl)
theorem dX0_append_39 : decode cX0_append 39 = .ok (.invokevirtual 127, 3) := dk_182 0 127 (dk_at dksX0_append_1 17 rfl rfl)
theorem dX0_append_42 : decode cX0_append 42 = .ok (.aload_n 0, 1) := dk_42 (dk_at dksX0_append_1 20 rfl rfl)
theorem dX0_append_43 : decode cX0_append 43 = .ok (.getfield 124, 3) := dk_180 0 124 (dk_at dksX0_append_1 21 rfl rfl)
theorem dX0_append_46 : decode cX0_append 46 = .ok (.ireturn, 1) := dk_172 (dk_at dksX0_append_2 0 rfl rfl)
abbrev cX0_tapes : ByteArray := prog_1_method_17_code
def yX0_tapes : MethodName := ⟨RX0, "tapes", "(I)V"⟩
def dkwX0_tapes_1 : List UInt8 := [180, 0, 124, 4, 96, 181, 0, 124, 132, 2, 248, 167, 255, 226, 177]
abbrev dktX0_tapes_1 : List UInt8 := dkwX0_tapes_1 ++ []
def dkwX0_tapes_0 : List UInt8 := [16, 24, 61, 28, 155, 0, 32, 42, 180, 0, 47, 42, 180, 0, 124, 27, 28, 122, 145, 84, 42, 89]
abbrev dktX0_tapes_0 : List UInt8 := dkwX0_tapes_0 ++ dktX0_tapes_1
theorem dksX0_tapes_0 : cX0_tapes.data.toList.drop 0 = dktX0_tapes_0 := by decide +kernel
theorem dksX0_tapes_1 : cX0_tapes.data.toList.drop 22 = dktX0_tapes_1 := dk_seg dksX0_tapes_0 22 rfl rfl
theorem dX0_tapes_0 : decode cX0_tapes 0 = .ok (.bipush 24, 2) := dk_16 24 (dk_at dksX0_tapes_0 0 rfl rfl)
theorem dX0_tapes_2 : decode cX0_tapes 2 = .ok (.istore_n 2, 1) := dk_61 (dk_at dksX0_tapes_0 2 rfl rfl)
theorem dX0_tapes_3 : decode cX0_tapes 3 = .ok (.iload_n 2, 1) := dk_28 (dk_at dksX0_tapes_0 3 rfl rfl)
theorem dX0_tapes_4 : decode cX0_tapes 4 = .ok (.ifCond .lt 32, 3) := dk_155 0 32 (dk_at dksX0_tapes_0 4 rfl rfl)
theorem dX0_tapes_7 : decode cX0_tapes 7 = .ok (.aload_n 0, 1) := dk_42 (dk_at dksX0_tapes_0 7 rfl rfl)
theorem dX0_tapes_8 : decode cX0_tapes 8 = .ok (.getfield 47, 3) := dk_180 0 47 (dk_at dksX0_tapes_0 8 rfl rfl)
theorem dX0_tapes_11 : decode cX0_tapes 11 = .ok (.aload_n 0, 1) := dk_42 (dk_at dksX0_tapes_0 11 rfl rfl)
theorem dX0_tapes_12 : decode cX0_tapes 12 = .ok (.getfield 124, 3) := dk_180 0 124 (dk_at dksX0_tapes_0 12 rfl rfl)
theorem dX0_tapes_15 : decode cX0_tapes 15 = .ok (.iload_n 1, 1) := dk_27 (dk_at dksX0_tapes_0 15 rfl rfl)
theorem dX0_tapes_16 : decode cX0_tapes 16 = .ok (.iload_n 2, 1) := dk_28 (dk_at dksX0_tapes_0 16 rfl rfl)
theorem dX0_tapes_17 : decode cX0_tapes 17 = .ok (.ishr, 1) := dk_122 (dk_at dksX0_tapes_0 17 rfl rfl)
theorem dX0_tapes_18 : decode cX0_tapes 18 = .ok (.i2b, 1) := dk_145 (dk_at dksX0_tapes_0 18 rfl rfl)
theorem dX0_tapes_19 : decode cX0_tapes 19 = .ok (.bastore, 1) := dk_84 (dk_at dksX0_tapes_0 19 rfl rfl)
theorem dX0_tapes_20 : decode cX0_tapes 20 = .ok (.aload_n 0, 1) := dk_42 (dk_at dksX0_tapes_0 20 rfl rfl)
theorem dX0_tapes_21 : decode cX0_tapes 21 = .ok (.dup, 1) := dk_89 (dk_at dksX0_tapes_0 21 rfl rfl)
theorem dX0_tapes_22 : decode cX0_tapes 22 = .ok (.getfield 124, 3) := dk_180 0 124 (dk_at dksX0_tapes_1 0 rfl rfl)
theorem dX0_tapes_25 : decode cX0_tapes 25 = .ok (.iconst 1, 1) := dk_4 (dk_at dksX0_tapes_1 3 rfl rfl)
theorem dX0_tapes_26 : decode cX0_tapes 26 = .ok (.iadd, 1) := dk_96 (dk_at dksX0_tapes_1 4 rfl rfl)
theorem dX0_tapes_27 : decode cX0_tapes 27 = .ok (.putfield 124, 3) := dk_181 0 124 (dk_at dksX0_tapes_1 5 rfl rfl)
theorem dX0_tapes_30 : decode cX0_tapes 30 = .ok (.iinc 2 (-8), 3) := dk_132 2 248 (dk_at dksX0_tapes_1 8 rfl rfl)
theorem dX0_tapes_33 : decode cX0_tapes 33 = .ok (.goto (-30), 3) := dk_167 255 226 (dk_at dksX0_tapes_1 11 rfl rfl)
theorem dX0_tapes_36 : decode cX0_tapes 36 = .ok (.return_, 1) := dk_177 (dk_at dksX0_tapes_1 14 rfl rfl)
abbrev cX0_truncate : ByteArray := prog_1_method_18_code
def yX0_truncate : MethodName := ⟨RX0, "truncate", "(I)I"⟩
def dkwX0_truncate_1 : List UInt8 := [42, 180, 0, 124, 172]
abbrev dktX0_truncate_1 : List UInt8 := dkwX0_truncate_1 ++ []
def dkwX0_truncate_0 : List UInt8 := [27, 3, 42, 180, 0, 124, 184, 0, 78, 154, 0, 5, 2, 172, 42, 89, 180, 0, 124, 27, 100, 181, 0, 124]
abbrev dktX0_truncate_0 : List UInt8 := dkwX0_truncate_0 ++ dktX0_truncate_1
theorem dksX0_truncate_0 : cX0_truncate.data.toList.drop 0 = dktX0_truncate_0 := by decide +kernel
theorem dksX0_truncate_1 : cX0_truncate.data.toList.drop 24 = dktX0_truncate_1 := dk_seg dksX0_truncate_0 24 rfl rfl
theorem dX0_truncate_0 : decode cX0_truncate 0 = .ok (.iload_n 1, 1) := dk_27 (dk_at dksX0_truncate_0 0 rfl rfl)
theorem dX0_truncate_1 : decode cX0_truncate 1 = .ok (.iconst 0, 1) := dk_3 (dk_at dksX0_truncate_0 1 rfl rfl)
theorem dX0_truncate_2 : decode cX0_truncate 2 = .ok (.aload_n 0, 1) := dk_42 (dk_at dksX0_truncate_0 2 rfl rfl)
theorem dX0_truncate_3 : decode cX0_truncate 3 = .ok (.getfield 124, 3) := dk_180 0 124 (dk_at dksX0_truncate_0 3 rfl rfl)
theorem dX0_truncate_6 : decode cX0_truncate 6 = .ok (.invokestatic 78, 3) := dk_184 0 78 (dk_at dksX0_truncate_0 6 rfl rfl)
theorem dX0_truncate_9 : decode cX0_truncate 9 = .ok (.ifCond .ne 5, 3) := dk_154 0 5 (dk_at dksX0_truncate_0 9 rfl rfl)
theorem dX0_truncate_12 : decode cX0_truncate 12 = .ok (.iconst (-1), 1) := dk_2 (dk_at dksX0_truncate_0 12 rfl rfl)
theorem dX0_truncate_13 : decode cX0_truncate 13 = .ok (.ireturn, 1) := dk_172 (dk_at dksX0_truncate_0 13 rfl rfl)
theorem dX0_truncate_14 : decode cX0_truncate 14 = .ok (.aload_n 0, 1) := dk_42 (dk_at dksX0_truncate_0 14 rfl rfl)
theorem dX0_truncate_15 : decode cX0_truncate 15 = .ok (.dup, 1) := dk_89 (dk_at dksX0_truncate_0 15 rfl rfl)
theorem dX0_truncate_16 : decode cX0_truncate 16 = .ok (.getfield 124, 3) := dk_180 0 124 (dk_at dksX0_truncate_0 16 rfl rfl)
theorem dX0_truncate_19 : decode cX0_truncate 19 = .ok (.iload_n 1, 1) := dk_27 (dk_at dksX0_truncate_0 19 rfl rfl)
theorem dX0_truncate_20 : decode cX0_truncate 20 = .ok (.isub, 1) := dk_100 (dk_at dksX0_truncate_0 20 rfl rfl)
theorem dX0_truncate_21 : decode cX0_truncate 21 = .ok (.putfield 124, 3) := dk_181 0 124 (dk_at dksX0_truncate_0 21 rfl rfl)
theorem dX0_truncate_24 : decode cX0_truncate 24 = .ok (.aload_n 0, 1) := dk_42 (dk_at dksX0_truncate_1 0 rfl rfl)
theorem dX0_truncate_25 : decode cX0_truncate 25 = .ok (.getfield 124, 3) := dk_180 0 124 (dk_at dksX0_truncate_1 1 rfl rfl)
theorem dX0_truncate_28 : decode cX0_truncate 28 = .ok (.ireturn, 1) := dk_172 (dk_at dksX0_truncate_1 4 rfl rfl)
abbrev cX0_errorPosition : ByteArray := prog_1_method_19_code
def yX0_errorPosition : MethodName := ⟨RX0, "errorPosition", "()I"⟩
theorem dX0_errorPosition_0 : decode cX0_errorPosition 0 = .ok (.aload_n 0, 1) := by decide +kernel
theorem dX0_errorPosition_1 : decode cX0_errorPosition 1 = .ok (.getfield 51, 3) := by decide +kernel
theorem dX0_errorPosition_4 : decode cX0_errorPosition 4 = .ok (.ireturn, 1) := by decide +kernel
abbrev cX0_load : ByteArray := prog_1_method_21_code
def yX0_load : MethodName := ⟨RX0, "load", "()I"⟩
def dkwX0_load_3 : List UInt8 := [180, 0, 43, 3, 1, 83, 42, 180, 0, 43, 4, 1, 83, 42, 180, 0, 32, 180, 0, 89, 182, 0, 92, 172]
abbrev dktX0_load_3 : List UInt8 := dkwX0_load_3 ++ []
def dkwX0_load_2 : List UInt8 := [3, 181, 0, 124, 25, 4, 191, 42, 43, 180, 0, 173, 181, 0, 32, 42, 180, 0, 39, 182, 0, 176, 42]
abbrev dktX0_load_2 : List UInt8 := dkwX0_load_2 ++ dktX0_load_3
def dkwX0_load_1 : List UInt8 := [167, 0, 31, 77, 42, 44, 180, 0, 170, 181, 0, 51, 2, 62, 42, 3, 181, 0, 124, 29, 172, 58, 4, 42]
abbrev dktX0_load_1 : List UInt8 := dkwX0_load_1 ++ dktX0_load_2
def dkwX0_load_0 : List UInt8 := [187, 0, 160, 89, 42, 183, 0, 162, 76, 43, 182, 0, 165, 42, 16, 254, 181, 0, 51, 42, 3, 181, 0, 124]
abbrev dktX0_load_0 : List UInt8 := dkwX0_load_0 ++ dktX0_load_1
theorem dksX0_load_0 : cX0_load.data.toList.drop 0 = dktX0_load_0 := by decide +kernel
theorem dksX0_load_1 : cX0_load.data.toList.drop 24 = dktX0_load_1 := dk_seg dksX0_load_0 24 rfl rfl
theorem dksX0_load_2 : cX0_load.data.toList.drop 48 = dktX0_load_2 := dk_seg dksX0_load_1 24 rfl rfl
theorem dksX0_load_3 : cX0_load.data.toList.drop 71 = dktX0_load_3 := dk_seg dksX0_load_2 23 rfl rfl
theorem dX0_load_0 : decode cX0_load 0 = .ok (.new 160, 3) := dk_187 0 160 (dk_at dksX0_load_0 0 rfl rfl)
theorem dX0_load_3 : decode cX0_load 3 = .ok (.dup, 1) := dk_89 (dk_at dksX0_load_0 3 rfl rfl)
theorem dX0_load_4 : decode cX0_load 4 = .ok (.aload_n 0, 1) := dk_42 (dk_at dksX0_load_0 4 rfl rfl)
theorem dX0_load_5 : decode cX0_load 5 = .ok (.invokespecial 162, 3) := dk_183 0 162 (dk_at dksX0_load_0 5 rfl rfl)
theorem dX0_load_8 : decode cX0_load 8 = .ok (.astore_n 1, 1) := dk_76 (dk_at dksX0_load_0 8 rfl rfl)
theorem dX0_load_9 : decode cX0_load 9 = .ok (.aload_n 1, 1) := dk_43 (dk_at dksX0_load_0 9 rfl rfl)
theorem dX0_load_10 : decode cX0_load 10 = .ok (.invokevirtual 165, 3) := dk_182 0 165 (dk_at dksX0_load_0 10 rfl rfl)
theorem dX0_load_13 : decode cX0_load 13 = .ok (.aload_n 0, 1) := dk_42 (dk_at dksX0_load_0 13 rfl rfl)
theorem dX0_load_14 : decode cX0_load 14 = .ok (.bipush (-2), 2) := dk_16 254 (dk_at dksX0_load_0 14 rfl rfl)
theorem dX0_load_16 : decode cX0_load 16 = .ok (.putfield 51, 3) := dk_181 0 51 (dk_at dksX0_load_0 16 rfl rfl)
theorem dX0_load_19 : decode cX0_load 19 = .ok (.aload_n 0, 1) := dk_42 (dk_at dksX0_load_0 19 rfl rfl)
theorem dX0_load_20 : decode cX0_load 20 = .ok (.iconst 0, 1) := dk_3 (dk_at dksX0_load_0 20 rfl rfl)
theorem dX0_load_21 : decode cX0_load 21 = .ok (.putfield 124, 3) := dk_181 0 124 (dk_at dksX0_load_0 21 rfl rfl)
theorem dX0_load_24 : decode cX0_load 24 = .ok (.goto 31, 3) := dk_167 0 31 (dk_at dksX0_load_1 0 rfl rfl)
theorem dX0_load_27 : decode cX0_load 27 = .ok (.astore_n 2, 1) := dk_77 (dk_at dksX0_load_1 3 rfl rfl)
theorem dX0_load_28 : decode cX0_load 28 = .ok (.aload_n 0, 1) := dk_42 (dk_at dksX0_load_1 4 rfl rfl)
theorem dX0_load_29 : decode cX0_load 29 = .ok (.aload_n 2, 1) := dk_44 (dk_at dksX0_load_1 5 rfl rfl)
theorem dX0_load_30 : decode cX0_load 30 = .ok (.getfield 170, 3) := dk_180 0 170 (dk_at dksX0_load_1 6 rfl rfl)
theorem dX0_load_33 : decode cX0_load 33 = .ok (.putfield 51, 3) := dk_181 0 51 (dk_at dksX0_load_1 9 rfl rfl)
theorem dX0_load_36 : decode cX0_load 36 = .ok (.iconst (-1), 1) := dk_2 (dk_at dksX0_load_1 12 rfl rfl)
theorem dX0_load_37 : decode cX0_load 37 = .ok (.istore_n 3, 1) := dk_62 (dk_at dksX0_load_1 13 rfl rfl)
theorem dX0_load_38 : decode cX0_load 38 = .ok (.aload_n 0, 1) := dk_42 (dk_at dksX0_load_1 14 rfl rfl)
theorem dX0_load_39 : decode cX0_load 39 = .ok (.iconst 0, 1) := dk_3 (dk_at dksX0_load_1 15 rfl rfl)
theorem dX0_load_40 : decode cX0_load 40 = .ok (.putfield 124, 3) := dk_181 0 124 (dk_at dksX0_load_1 16 rfl rfl)
theorem dX0_load_43 : decode cX0_load 43 = .ok (.iload_n 3, 1) := dk_29 (dk_at dksX0_load_1 19 rfl rfl)
theorem dX0_load_44 : decode cX0_load 44 = .ok (.ireturn, 1) := dk_172 (dk_at dksX0_load_1 20 rfl rfl)
theorem dX0_load_45 : decode cX0_load 45 = .ok (.astore 4, 2) := dk_58 4 (dk_at dksX0_load_1 21 rfl rfl)
theorem dX0_load_47 : decode cX0_load 47 = .ok (.aload_n 0, 1) := dk_42 (dk_at dksX0_load_1 23 rfl rfl)
theorem dX0_load_48 : decode cX0_load 48 = .ok (.iconst 0, 1) := dk_3 (dk_at dksX0_load_2 0 rfl rfl)
theorem dX0_load_49 : decode cX0_load 49 = .ok (.putfield 124, 3) := dk_181 0 124 (dk_at dksX0_load_2 1 rfl rfl)
theorem dX0_load_52 : decode cX0_load 52 = .ok (.aload 4, 2) := dk_25 4 (dk_at dksX0_load_2 4 rfl rfl)
theorem dX0_load_54 : decode cX0_load 54 = .ok (.athrow, 1) := dk_191 (dk_at dksX0_load_2 6 rfl rfl)
theorem dX0_load_55 : decode cX0_load 55 = .ok (.aload_n 0, 1) := dk_42 (dk_at dksX0_load_2 7 rfl rfl)
theorem dX0_load_56 : decode cX0_load 56 = .ok (.aload_n 1, 1) := dk_43 (dk_at dksX0_load_2 8 rfl rfl)
theorem dX0_load_57 : decode cX0_load 57 = .ok (.getfield 173, 3) := dk_180 0 173 (dk_at dksX0_load_2 9 rfl rfl)
theorem dX0_load_60 : decode cX0_load 60 = .ok (.putfield 32, 3) := dk_181 0 32 (dk_at dksX0_load_2 12 rfl rfl)
theorem dX0_load_63 : decode cX0_load 63 = .ok (.aload_n 0, 1) := dk_42 (dk_at dksX0_load_2 15 rfl rfl)
theorem dX0_load_64 : decode cX0_load 64 = .ok (.getfield 39, 3) := dk_180 0 39 (dk_at dksX0_load_2 16 rfl rfl)
theorem dX0_load_67 : decode cX0_load 67 = .ok (.invokevirtual 176, 3) := dk_182 0 176 (dk_at dksX0_load_2 19 rfl rfl)
theorem dX0_load_70 : decode cX0_load 70 = .ok (.aload_n 0, 1) := dk_42 (dk_at dksX0_load_2 22 rfl rfl)
theorem dX0_load_71 : decode cX0_load 71 = .ok (.getfield 43, 3) := dk_180 0 43 (dk_at dksX0_load_3 0 rfl rfl)
theorem dX0_load_74 : decode cX0_load 74 = .ok (.iconst 0, 1) := dk_3 (dk_at dksX0_load_3 3 rfl rfl)
theorem dX0_load_75 : decode cX0_load 75 = .ok (.aconst_null, 1) := dk_1 (dk_at dksX0_load_3 4 rfl rfl)
theorem dX0_load_76 : decode cX0_load 76 = .ok (.aastore, 1) := dk_83 (dk_at dksX0_load_3 5 rfl rfl)
theorem dX0_load_77 : decode cX0_load 77 = .ok (.aload_n 0, 1) := dk_42 (dk_at dksX0_load_3 6 rfl rfl)
theorem dX0_load_78 : decode cX0_load 78 = .ok (.getfield 43, 3) := dk_180 0 43 (dk_at dksX0_load_3 7 rfl rfl)
theorem dX0_load_81 : decode cX0_load 81 = .ok (.iconst 1, 1) := dk_4 (dk_at dksX0_load_3 10 rfl rfl)
theorem dX0_load_82 : decode cX0_load 82 = .ok (.aconst_null, 1) := dk_1 (dk_at dksX0_load_3 11 rfl rfl)
theorem dX0_load_83 : decode cX0_load 83 = .ok (.aastore, 1) := dk_83 (dk_at dksX0_load_3 12 rfl rfl)
theorem dX0_load_84 : decode cX0_load 84 = .ok (.aload_n 0, 1) := dk_42 (dk_at dksX0_load_3 13 rfl rfl)
theorem dX0_load_85 : decode cX0_load 85 = .ok (.getfield 32, 3) := dk_180 0 32 (dk_at dksX0_load_3 14 rfl rfl)
theorem dX0_load_88 : decode cX0_load 88 = .ok (.getfield 89, 3) := dk_180 0 89 (dk_at dksX0_load_3 17 rfl rfl)
theorem dX0_load_91 : decode cX0_load 91 = .ok (.invokevirtual 92, 3) := dk_182 0 92 (dk_at dksX0_load_3 20 rfl rfl)
theorem dX0_load_94 : decode cX0_load 94 = .ok (.ireturn, 1) := dk_172 (dk_at dksX0_load_3 23 rfl rfl)
abbrev cX0_kindOf : ByteArray := prog_1_method_20_code
def yX0_kindOf : MethodName := ⟨RX0, "kindOf", "(Ljava/lang/String;)I"⟩
def dkwX0_kindOf_9 : List UInt8 := [4, 167, 0, 16, 42, 182, 0, 157, 8, 163, 0, 7, 5, 167, 0, 4, 8, 172]
abbrev dktX0_kindOf_9 : List UInt8 := dkwX0_kindOf_9 ++ []
def dkwX0_kindOf_8 : List UInt8 := [170, 0, 0, 0, 53, 0, 0, 0, 0, 0, 0, 0, 8, 0, 0, 0, 49, 0, 0, 0, 49, 0, 0, 0, 49, 0, 0, 0, 49, 0, 0, 0, 49, 0, 0, 0, 49, 0, 0, 0, 49, 0, 0, 0, 49, 0, 0, 0, 49]
abbrev dktX0_kindOf_8 : List UInt8 := dkwX0_kindOf_8 ++ dktX0_kindOf_9
def dkwX0_kindOf_7 : List UInt8 := [182, 0, 138, 153, 0, 6, 16, 8, 61, 28]
abbrev dktX0_kindOf_7 : List UInt8 := dkwX0_kindOf_7 ++ dktX0_kindOf_8
def dkwX0_kindOf_6 : List UInt8 := [61, 167, 0, 30, 43, 18, 153, 182, 0, 138, 153, 0, 21, 16, 7, 61, 167, 0, 15, 43, 18, 155]
abbrev dktX0_kindOf_6 : List UInt8 := dkwX0_kindOf_6 ++ dktX0_kindOf_7
def dkwX0_kindOf_5 : List UInt8 := [18, 149, 182, 0, 138, 153, 0, 50, 8, 61, 167, 0, 45, 43, 18, 151, 182, 0, 138, 153, 0, 36, 16, 6]
abbrev dktX0_kindOf_5 : List UInt8 := dkwX0_kindOf_5 ++ dktX0_kindOf_6
def dkwX0_kindOf_4 : List UInt8 := [153, 0, 78, 6, 61, 167, 0, 73, 43, 18, 147, 182, 0, 138, 153, 0, 64, 7, 61, 167, 0, 59, 43]
abbrev dktX0_kindOf_4 : List UInt8 := dkwX0_kindOf_4 ++ dktX0_kindOf_5
def dkwX0_kindOf_3 : List UInt8 := [61, 167, 0, 101, 43, 18, 143, 182, 0, 138, 153, 0, 92, 5, 61, 167, 0, 87, 43, 18, 145, 182, 0, 138]
abbrev dktX0_kindOf_3 : List UInt8 := dkwX0_kindOf_3 ++ dktX0_kindOf_4
def dkwX0_kindOf_2 : List UInt8 := [43, 18, 136, 182, 0, 138, 153, 0, 120, 3, 61, 167, 0, 115, 43, 18, 141, 182, 0, 138, 153, 0, 106, 4]
abbrev dktX0_kindOf_2 : List UInt8 := dkwX0_kindOf_2 ++ dktX0_kindOf_3
def dkwX0_kindOf_1 : List UInt8 := [171, 0, 0, 0, 0, 0, 0, 210, 0, 0, 0, 9, 0, 1, 129, 128, 0, 0, 0, 154, 0, 1, 185, 218, 0, 0, 0, 140, 0, 46, 252, 147, 0, 0, 0, 183, 0, 48, 107, 17, 0, 0, 0, 168, 0, 50, 145, 235, 0, 0, 0, 84, 0, 52, 100, 37, 0, 0, 0, 198, 6, 83, 242, 179, 0, 0, 0, 112, 6, 95, 177, 73, 0, 0, 0, 98, 6, 137, 27, 26, 0, 0, 0, 126]
abbrev dktX0_kindOf_1 : List UInt8 := dkwX0_kindOf_1 ++ dktX0_kindOf_2
def dkwX0_kindOf_0 : List UInt8 := [42, 76, 2, 61, 43, 182, 0, 131]
abbrev dktX0_kindOf_0 : List UInt8 := dkwX0_kindOf_0 ++ dktX0_kindOf_1
theorem dksX0_kindOf_0 : cX0_kindOf.data.toList.drop 0 = dktX0_kindOf_0 := by decide +kernel
theorem dksX0_kindOf_1 : cX0_kindOf.data.toList.drop 8 = dktX0_kindOf_1 := dk_seg dksX0_kindOf_0 8 rfl rfl
theorem dksX0_kindOf_2 : cX0_kindOf.data.toList.drop 92 = dktX0_kindOf_2 := dk_seg dksX0_kindOf_1 84 rfl rfl
theorem dksX0_kindOf_3 : cX0_kindOf.data.toList.drop 116 = dktX0_kindOf_3 := dk_seg dksX0_kindOf_2 24 rfl rfl
theorem dksX0_kindOf_4 : cX0_kindOf.data.toList.drop 140 = dktX0_kindOf_4 := dk_seg dksX0_kindOf_3 24 rfl rfl
theorem dksX0_kindOf_5 : cX0_kindOf.data.toList.drop 163 = dktX0_kindOf_5 := dk_seg dksX0_kindOf_4 23 rfl rfl
theorem dksX0_kindOf_6 : cX0_kindOf.data.toList.drop 187 = dktX0_kindOf_6 := dk_seg dksX0_kindOf_5 24 rfl rfl
theorem dksX0_kindOf_7 : cX0_kindOf.data.toList.drop 209 = dktX0_kindOf_7 := dk_seg dksX0_kindOf_6 22 rfl rfl
theorem dksX0_kindOf_8 : cX0_kindOf.data.toList.drop 219 = dktX0_kindOf_8 := dk_seg dksX0_kindOf_7 10 rfl rfl
theorem dksX0_kindOf_9 : cX0_kindOf.data.toList.drop 268 = dktX0_kindOf_9 := dk_seg dksX0_kindOf_8 49 rfl rfl
theorem dX0_kindOf_0 : decode cX0_kindOf 0 = .ok (.aload_n 0, 1) := dk_42 (dk_at dksX0_kindOf_0 0 rfl rfl)
theorem dX0_kindOf_1 : decode cX0_kindOf 1 = .ok (.astore_n 1, 1) := dk_76 (dk_at dksX0_kindOf_0 1 rfl rfl)
theorem dX0_kindOf_2 : decode cX0_kindOf 2 = .ok (.iconst (-1), 1) := dk_2 (dk_at dksX0_kindOf_0 2 rfl rfl)
theorem dX0_kindOf_3 : decode cX0_kindOf 3 = .ok (.istore_n 2, 1) := dk_61 (dk_at dksX0_kindOf_0 3 rfl rfl)
theorem dX0_kindOf_4 : decode cX0_kindOf 4 = .ok (.aload_n 1, 1) := dk_43 (dk_at dksX0_kindOf_0 4 rfl rfl)
theorem dX0_kindOf_5 : decode cX0_kindOf 5 = .ok (.invokevirtual 131, 3) := dk_182 0 131 (dk_at dksX0_kindOf_0 5 rfl rfl)
theorem dX0_kindOf_8 : decode cX0_kindOf 8 = .ok (.lookupswitch 210 #[(98688, 154), (113114, 140), (3079315, 183), (3173137, 168), (3314155, 84), (3433509, 198), (106164915, 112), (106934601, 98), (109648666, 126)], 84) := by decide +kernel
theorem dX0_kindOf_92 : decode cX0_kindOf 92 = .ok (.aload_n 1, 1) := dk_43 (dk_at dksX0_kindOf_2 0 rfl rfl)
theorem dX0_kindOf_93 : decode cX0_kindOf 93 = .ok (.ldc 136, 2) := dk_18 136 (dk_at dksX0_kindOf_2 1 rfl rfl)
theorem dX0_kindOf_95 : decode cX0_kindOf 95 = .ok (.invokevirtual 138, 3) := dk_182 0 138 (dk_at dksX0_kindOf_2 3 rfl rfl)
theorem dX0_kindOf_98 : decode cX0_kindOf 98 = .ok (.ifCond .eq 120, 3) := dk_153 0 120 (dk_at dksX0_kindOf_2 6 rfl rfl)
theorem dX0_kindOf_101 : decode cX0_kindOf 101 = .ok (.iconst 0, 1) := dk_3 (dk_at dksX0_kindOf_2 9 rfl rfl)
theorem dX0_kindOf_102 : decode cX0_kindOf 102 = .ok (.istore_n 2, 1) := dk_61 (dk_at dksX0_kindOf_2 10 rfl rfl)
theorem dX0_kindOf_103 : decode cX0_kindOf 103 = .ok (.goto 115, 3) := dk_167 0 115 (dk_at dksX0_kindOf_2 11 rfl rfl)
theorem dX0_kindOf_106 : decode cX0_kindOf 106 = .ok (.aload_n 1, 1) := dk_43 (dk_at dksX0_kindOf_2 14 rfl rfl)
theorem dX0_kindOf_107 : decode cX0_kindOf 107 = .ok (.ldc 141, 2) := dk_18 141 (dk_at dksX0_kindOf_2 15 rfl rfl)
theorem dX0_kindOf_109 : decode cX0_kindOf 109 = .ok (.invokevirtual 138, 3) := dk_182 0 138 (dk_at dksX0_kindOf_2 17 rfl rfl)
theorem dX0_kindOf_112 : decode cX0_kindOf 112 = .ok (.ifCond .eq 106, 3) := dk_153 0 106 (dk_at dksX0_kindOf_2 20 rfl rfl)
theorem dX0_kindOf_115 : decode cX0_kindOf 115 = .ok (.iconst 1, 1) := dk_4 (dk_at dksX0_kindOf_2 23 rfl rfl)
theorem dX0_kindOf_116 : decode cX0_kindOf 116 = .ok (.istore_n 2, 1) := dk_61 (dk_at dksX0_kindOf_3 0 rfl rfl)
theorem dX0_kindOf_117 : decode cX0_kindOf 117 = .ok (.goto 101, 3) := dk_167 0 101 (dk_at dksX0_kindOf_3 1 rfl rfl)
theorem dX0_kindOf_120 : decode cX0_kindOf 120 = .ok (.aload_n 1, 1) := dk_43 (dk_at dksX0_kindOf_3 4 rfl rfl)
theorem dX0_kindOf_121 : decode cX0_kindOf 121 = .ok (.ldc 143, 2) := dk_18 143 (dk_at dksX0_kindOf_3 5 rfl rfl)
theorem dX0_kindOf_123 : decode cX0_kindOf 123 = .ok (.invokevirtual 138, 3) := dk_182 0 138 (dk_at dksX0_kindOf_3 7 rfl rfl)
theorem dX0_kindOf_126 : decode cX0_kindOf 126 = .ok (.ifCond .eq 92, 3) := dk_153 0 92 (dk_at dksX0_kindOf_3 10 rfl rfl)
theorem dX0_kindOf_129 : decode cX0_kindOf 129 = .ok (.iconst 2, 1) := dk_5 (dk_at dksX0_kindOf_3 13 rfl rfl)
theorem dX0_kindOf_130 : decode cX0_kindOf 130 = .ok (.istore_n 2, 1) := dk_61 (dk_at dksX0_kindOf_3 14 rfl rfl)
theorem dX0_kindOf_131 : decode cX0_kindOf 131 = .ok (.goto 87, 3) := dk_167 0 87 (dk_at dksX0_kindOf_3 15 rfl rfl)
theorem dX0_kindOf_134 : decode cX0_kindOf 134 = .ok (.aload_n 1, 1) := dk_43 (dk_at dksX0_kindOf_3 18 rfl rfl)
theorem dX0_kindOf_135 : decode cX0_kindOf 135 = .ok (.ldc 145, 2) := dk_18 145 (dk_at dksX0_kindOf_3 19 rfl rfl)
theorem dX0_kindOf_137 : decode cX0_kindOf 137 = .ok (.invokevirtual 138, 3) := dk_182 0 138 (dk_at dksX0_kindOf_3 21 rfl rfl)
theorem dX0_kindOf_140 : decode cX0_kindOf 140 = .ok (.ifCond .eq 78, 3) := dk_153 0 78 (dk_at dksX0_kindOf_4 0 rfl rfl)
theorem dX0_kindOf_143 : decode cX0_kindOf 143 = .ok (.iconst 3, 1) := dk_6 (dk_at dksX0_kindOf_4 3 rfl rfl)
theorem dX0_kindOf_144 : decode cX0_kindOf 144 = .ok (.istore_n 2, 1) := dk_61 (dk_at dksX0_kindOf_4 4 rfl rfl)
theorem dX0_kindOf_145 : decode cX0_kindOf 145 = .ok (.goto 73, 3) := dk_167 0 73 (dk_at dksX0_kindOf_4 5 rfl rfl)
theorem dX0_kindOf_148 : decode cX0_kindOf 148 = .ok (.aload_n 1, 1) := dk_43 (dk_at dksX0_kindOf_4 8 rfl rfl)
theorem dX0_kindOf_149 : decode cX0_kindOf 149 = .ok (.ldc 147, 2) := dk_18 147 (dk_at dksX0_kindOf_4 9 rfl rfl)
theorem dX0_kindOf_151 : decode cX0_kindOf 151 = .ok (.invokevirtual 138, 3) := dk_182 0 138 (dk_at dksX0_kindOf_4 11 rfl rfl)
theorem dX0_kindOf_154 : decode cX0_kindOf 154 = .ok (.ifCond .eq 64, 3) := dk_153 0 64 (dk_at dksX0_kindOf_4 14 rfl rfl)
theorem dX0_kindOf_157 : decode cX0_kindOf 157 = .ok (.iconst 4, 1) := dk_7 (dk_at dksX0_kindOf_4 17 rfl rfl)
theorem dX0_kindOf_158 : decode cX0_kindOf 158 = .ok (.istore_n 2, 1) := dk_61 (dk_at dksX0_kindOf_4 18 rfl rfl)
theorem dX0_kindOf_159 : decode cX0_kindOf 159 = .ok (.goto 59, 3) := dk_167 0 59 (dk_at dksX0_kindOf_4 19 rfl rfl)
theorem dX0_kindOf_162 : decode cX0_kindOf 162 = .ok (.aload_n 1, 1) := dk_43 (dk_at dksX0_kindOf_4 22 rfl rfl)
theorem dX0_kindOf_163 : decode cX0_kindOf 163 = .ok (.ldc 149, 2) := dk_18 149 (dk_at dksX0_kindOf_5 0 rfl rfl)
theorem dX0_kindOf_165 : decode cX0_kindOf 165 = .ok (.invokevirtual 138, 3) := dk_182 0 138 (dk_at dksX0_kindOf_5 2 rfl rfl)
theorem dX0_kindOf_168 : decode cX0_kindOf 168 = .ok (.ifCond .eq 50, 3) := dk_153 0 50 (dk_at dksX0_kindOf_5 5 rfl rfl)
theorem dX0_kindOf_171 : decode cX0_kindOf 171 = .ok (.iconst 5, 1) := dk_8 (dk_at dksX0_kindOf_5 8 rfl rfl)
theorem dX0_kindOf_172 : decode cX0_kindOf 172 = .ok (.istore_n 2, 1) := dk_61 (dk_at dksX0_kindOf_5 9 rfl rfl)
theorem dX0_kindOf_173 : decode cX0_kindOf 173 = .ok (.goto 45, 3) := dk_167 0 45 (dk_at dksX0_kindOf_5 10 rfl rfl)
theorem dX0_kindOf_176 : decode cX0_kindOf 176 = .ok (.aload_n 1, 1) := dk_43 (dk_at dksX0_kindOf_5 13 rfl rfl)
theorem dX0_kindOf_177 : decode cX0_kindOf 177 = .ok (.ldc 151, 2) := dk_18 151 (dk_at dksX0_kindOf_5 14 rfl rfl)
theorem dX0_kindOf_179 : decode cX0_kindOf 179 = .ok (.invokevirtual 138, 3) := dk_182 0 138 (dk_at dksX0_kindOf_5 16 rfl rfl)
theorem dX0_kindOf_182 : decode cX0_kindOf 182 = .ok (.ifCond .eq 36, 3) := dk_153 0 36 (dk_at dksX0_kindOf_5 19 rfl rfl)
theorem dX0_kindOf_185 : decode cX0_kindOf 185 = .ok (.bipush 6, 2) := dk_16 6 (dk_at dksX0_kindOf_5 22 rfl rfl)
theorem dX0_kindOf_187 : decode cX0_kindOf 187 = .ok (.istore_n 2, 1) := dk_61 (dk_at dksX0_kindOf_6 0 rfl rfl)
theorem dX0_kindOf_188 : decode cX0_kindOf 188 = .ok (.goto 30, 3) := dk_167 0 30 (dk_at dksX0_kindOf_6 1 rfl rfl)
theorem dX0_kindOf_191 : decode cX0_kindOf 191 = .ok (.aload_n 1, 1) := dk_43 (dk_at dksX0_kindOf_6 4 rfl rfl)
theorem dX0_kindOf_192 : decode cX0_kindOf 192 = .ok (.ldc 153, 2) := dk_18 153 (dk_at dksX0_kindOf_6 5 rfl rfl)
theorem dX0_kindOf_194 : decode cX0_kindOf 194 = .ok (.invokevirtual 138, 3) := dk_182 0 138 (dk_at dksX0_kindOf_6 7 rfl rfl)
theorem dX0_kindOf_197 : decode cX0_kindOf 197 = .ok (.ifCond .eq 21, 3) := dk_153 0 21 (dk_at dksX0_kindOf_6 10 rfl rfl)
theorem dX0_kindOf_200 : decode cX0_kindOf 200 = .ok (.bipush 7, 2) := dk_16 7 (dk_at dksX0_kindOf_6 13 rfl rfl)
theorem dX0_kindOf_202 : decode cX0_kindOf 202 = .ok (.istore_n 2, 1) := dk_61 (dk_at dksX0_kindOf_6 15 rfl rfl)
theorem dX0_kindOf_203 : decode cX0_kindOf 203 = .ok (.goto 15, 3) := dk_167 0 15 (dk_at dksX0_kindOf_6 16 rfl rfl)
theorem dX0_kindOf_206 : decode cX0_kindOf 206 = .ok (.aload_n 1, 1) := dk_43 (dk_at dksX0_kindOf_6 19 rfl rfl)
theorem dX0_kindOf_207 : decode cX0_kindOf 207 = .ok (.ldc 155, 2) := dk_18 155 (dk_at dksX0_kindOf_6 20 rfl rfl)
theorem dX0_kindOf_209 : decode cX0_kindOf 209 = .ok (.invokevirtual 138, 3) := dk_182 0 138 (dk_at dksX0_kindOf_7 0 rfl rfl)
theorem dX0_kindOf_212 : decode cX0_kindOf 212 = .ok (.ifCond .eq 6, 3) := dk_153 0 6 (dk_at dksX0_kindOf_7 3 rfl rfl)
theorem dX0_kindOf_215 : decode cX0_kindOf 215 = .ok (.bipush 8, 2) := dk_16 8 (dk_at dksX0_kindOf_7 6 rfl rfl)
theorem dX0_kindOf_217 : decode cX0_kindOf 217 = .ok (.istore_n 2, 1) := dk_61 (dk_at dksX0_kindOf_7 8 rfl rfl)
theorem dX0_kindOf_218 : decode cX0_kindOf 218 = .ok (.iload_n 2, 1) := dk_28 (dk_at dksX0_kindOf_7 9 rfl rfl)
theorem dX0_kindOf_219 : decode cX0_kindOf 219 = .ok (.tableswitch 53 0 8 #[49, 49, 49, 49, 49, 49, 49, 49, 49], 49) := by decide +kernel
theorem dX0_kindOf_268 : decode cX0_kindOf 268 = .ok (.iconst 1, 1) := dk_4 (dk_at dksX0_kindOf_9 0 rfl rfl)
theorem dX0_kindOf_269 : decode cX0_kindOf 269 = .ok (.goto 16, 3) := dk_167 0 16 (dk_at dksX0_kindOf_9 1 rfl rfl)
theorem dX0_kindOf_272 : decode cX0_kindOf 272 = .ok (.aload_n 0, 1) := dk_42 (dk_at dksX0_kindOf_9 4 rfl rfl)
theorem dX0_kindOf_273 : decode cX0_kindOf 273 = .ok (.invokevirtual 157, 3) := dk_182 0 157 (dk_at dksX0_kindOf_9 5 rfl rfl)
theorem dX0_kindOf_276 : decode cX0_kindOf 276 = .ok (.iconst 5, 1) := dk_8 (dk_at dksX0_kindOf_9 8 rfl rfl)
theorem dX0_kindOf_277 : decode cX0_kindOf 277 = .ok (.if_icmp .gt 7, 3) := dk_163 0 7 (dk_at dksX0_kindOf_9 9 rfl rfl)
theorem dX0_kindOf_280 : decode cX0_kindOf 280 = .ok (.iconst 2, 1) := dk_5 (dk_at dksX0_kindOf_9 12 rfl rfl)
theorem dX0_kindOf_281 : decode cX0_kindOf 281 = .ok (.goto 4, 3) := dk_167 0 4 (dk_at dksX0_kindOf_9 13 rfl rfl)
theorem dX0_kindOf_284 : decode cX0_kindOf 284 = .ok (.iconst 5, 1) := dk_8 (dk_at dksX0_kindOf_9 16 rfl rfl)
theorem dX0_kindOf_285 : decode cX0_kindOf 285 = .ok (.ireturn, 1) := dk_172 (dk_at dksX0_kindOf_9 17 rfl rfl)
abbrev cX0_parts : ByteArray := prog_1_method_14_code
def yX0_parts : MethodName := ⟨RX0, "parts", "(LLandFolio$Parcel;II)Z"⟩
def dkwX0_parts_0 : List UInt8 := [28, 4, 27, 4, 160, 0, 10, 42, 180, 0, 106, 167, 0, 7, 42, 180, 0, 109, 4, 100, 184, 0, 78, 172]
abbrev dktX0_parts_0 : List UInt8 := dkwX0_parts_0 ++ []
theorem dksX0_parts_0 : cX0_parts.data.toList.drop 0 = dktX0_parts_0 := by decide +kernel
theorem dX0_parts_0 : decode cX0_parts 0 = .ok (.iload_n 2, 1) := dk_28 (dk_at dksX0_parts_0 0 rfl rfl)
theorem dX0_parts_1 : decode cX0_parts 1 = .ok (.iconst 1, 1) := dk_4 (dk_at dksX0_parts_0 1 rfl rfl)
theorem dX0_parts_2 : decode cX0_parts 2 = .ok (.iload_n 1, 1) := dk_27 (dk_at dksX0_parts_0 2 rfl rfl)
theorem dX0_parts_3 : decode cX0_parts 3 = .ok (.iconst 1, 1) := dk_4 (dk_at dksX0_parts_0 3 rfl rfl)
theorem dX0_parts_4 : decode cX0_parts 4 = .ok (.if_icmp .ne 10, 3) := dk_160 0 10 (dk_at dksX0_parts_0 4 rfl rfl)
theorem dX0_parts_7 : decode cX0_parts 7 = .ok (.aload_n 0, 1) := dk_42 (dk_at dksX0_parts_0 7 rfl rfl)
theorem dX0_parts_8 : decode cX0_parts 8 = .ok (.getfield 106, 3) := dk_180 0 106 (dk_at dksX0_parts_0 8 rfl rfl)
theorem dX0_parts_11 : decode cX0_parts 11 = .ok (.goto 7, 3) := dk_167 0 7 (dk_at dksX0_parts_0 11 rfl rfl)
theorem dX0_parts_14 : decode cX0_parts 14 = .ok (.aload_n 0, 1) := dk_42 (dk_at dksX0_parts_0 14 rfl rfl)
theorem dX0_parts_15 : decode cX0_parts 15 = .ok (.getfield 109, 3) := dk_180 0 109 (dk_at dksX0_parts_0 15 rfl rfl)
theorem dX0_parts_18 : decode cX0_parts 18 = .ok (.iconst 1, 1) := dk_4 (dk_at dksX0_parts_0 18 rfl rfl)
theorem dX0_parts_19 : decode cX0_parts 19 = .ok (.isub, 1) := dk_100 (dk_at dksX0_parts_0 19 rfl rfl)
theorem dX0_parts_20 : decode cX0_parts 20 = .ok (.invokestatic 78, 3) := dk_184 0 78 (dk_at dksX0_parts_0 20 rfl rfl)
theorem dX0_parts_23 : decode cX0_parts 23 = .ok (.ireturn, 1) := dk_172 (dk_at dksX0_parts_0 23 rfl rfl)
abbrev cX0_owner : ByteArray := prog_1_method_23_code
def yX0_owner : MethodName := ⟨RX0, "owner", "()I"⟩
def dkwX0_owner_4 : List UInt8 := [182, 0, 93, 172]
abbrev dktX0_owner_4 : List UInt8 := dkwX0_owner_4 ++ []
def dkwX0_owner_3 : List UInt8 := [100, 43, 182, 0, 157, 182, 0, 200, 42, 44, 42, 180, 0, 32, 180, 0, 7, 182, 0, 92, 4, 100]
abbrev dktX0_owner_3 : List UInt8 := dkwX0_owner_3 ++ dktX0_owner_4
def dkwX0_owner_2 : List UInt8 := [180, 0, 7, 43, 182, 0, 13, 87, 42, 180, 0, 32, 3, 42, 180, 0, 32, 180, 0, 7, 182, 0, 92, 4]
abbrev dktX0_owner_2 : List UInt8 := dkwX0_owner_2 ++ dktX0_owner_3
def dkwX0_owner_1 : List UInt8 := [160, 0, 6, 16, 253, 172, 42, 180, 0, 32, 182, 0, 86, 77, 42, 3, 181, 0, 124, 42, 180, 0, 32]
abbrev dktX0_owner_1 : List UInt8 := dkwX0_owner_1 ++ dktX0_owner_2
def dkwX0_owner_0 : List UInt8 := [42, 182, 0, 197, 76, 43, 199, 0, 5, 2, 172, 42, 180, 0, 32, 180, 0, 7, 182, 0, 92, 16, 6]
abbrev dktX0_owner_0 : List UInt8 := dkwX0_owner_0 ++ dktX0_owner_1
theorem dksX0_owner_0 : cX0_owner.data.toList.drop 0 = dktX0_owner_0 := by decide +kernel
theorem dksX0_owner_1 : cX0_owner.data.toList.drop 23 = dktX0_owner_1 := dk_seg dksX0_owner_0 23 rfl rfl
theorem dksX0_owner_2 : cX0_owner.data.toList.drop 46 = dktX0_owner_2 := dk_seg dksX0_owner_1 23 rfl rfl
theorem dksX0_owner_3 : cX0_owner.data.toList.drop 70 = dktX0_owner_3 := dk_seg dksX0_owner_2 24 rfl rfl
theorem dksX0_owner_4 : cX0_owner.data.toList.drop 92 = dktX0_owner_4 := dk_seg dksX0_owner_3 22 rfl rfl
theorem dX0_owner_0 : decode cX0_owner 0 = .ok (.aload_n 0, 1) := dk_42 (dk_at dksX0_owner_0 0 rfl rfl)
theorem dX0_owner_1 : decode cX0_owner 1 = .ok (.invokevirtual 197, 3) := dk_182 0 197 (dk_at dksX0_owner_0 1 rfl rfl)
theorem dX0_owner_4 : decode cX0_owner 4 = .ok (.astore_n 1, 1) := dk_76 (dk_at dksX0_owner_0 4 rfl rfl)
theorem dX0_owner_5 : decode cX0_owner 5 = .ok (.aload_n 1, 1) := dk_43 (dk_at dksX0_owner_0 5 rfl rfl)
theorem dX0_owner_6 : decode cX0_owner 6 = .ok (.ifnonnull 5, 3) := dk_199 0 5 (dk_at dksX0_owner_0 6 rfl rfl)
theorem dX0_owner_9 : decode cX0_owner 9 = .ok (.iconst (-1), 1) := dk_2 (dk_at dksX0_owner_0 9 rfl rfl)
theorem dX0_owner_10 : decode cX0_owner 10 = .ok (.ireturn, 1) := dk_172 (dk_at dksX0_owner_0 10 rfl rfl)
theorem dX0_owner_11 : decode cX0_owner 11 = .ok (.aload_n 0, 1) := dk_42 (dk_at dksX0_owner_0 11 rfl rfl)
theorem dX0_owner_12 : decode cX0_owner 12 = .ok (.getfield 32, 3) := dk_180 0 32 (dk_at dksX0_owner_0 12 rfl rfl)
theorem dX0_owner_15 : decode cX0_owner 15 = .ok (.getfield 7, 3) := dk_180 0 7 (dk_at dksX0_owner_0 15 rfl rfl)
theorem dX0_owner_18 : decode cX0_owner 18 = .ok (.invokevirtual 92, 3) := dk_182 0 92 (dk_at dksX0_owner_0 18 rfl rfl)
theorem dX0_owner_21 : decode cX0_owner 21 = .ok (.bipush 6, 2) := dk_16 6 (dk_at dksX0_owner_0 21 rfl rfl)
theorem dX0_owner_23 : decode cX0_owner 23 = .ok (.if_icmp .ne 6, 3) := dk_160 0 6 (dk_at dksX0_owner_1 0 rfl rfl)
theorem dX0_owner_26 : decode cX0_owner 26 = .ok (.bipush (-3), 2) := dk_16 253 (dk_at dksX0_owner_1 3 rfl rfl)
theorem dX0_owner_28 : decode cX0_owner 28 = .ok (.ireturn, 1) := dk_172 (dk_at dksX0_owner_1 5 rfl rfl)
theorem dX0_owner_29 : decode cX0_owner 29 = .ok (.aload_n 0, 1) := dk_42 (dk_at dksX0_owner_1 6 rfl rfl)
theorem dX0_owner_30 : decode cX0_owner 30 = .ok (.getfield 32, 3) := dk_180 0 32 (dk_at dksX0_owner_1 7 rfl rfl)
theorem dX0_owner_33 : decode cX0_owner 33 = .ok (.invokevirtual 86, 3) := dk_182 0 86 (dk_at dksX0_owner_1 10 rfl rfl)
theorem dX0_owner_36 : decode cX0_owner 36 = .ok (.astore_n 2, 1) := dk_77 (dk_at dksX0_owner_1 13 rfl rfl)
theorem dX0_owner_37 : decode cX0_owner 37 = .ok (.aload_n 0, 1) := dk_42 (dk_at dksX0_owner_1 14 rfl rfl)
theorem dX0_owner_38 : decode cX0_owner 38 = .ok (.iconst 0, 1) := dk_3 (dk_at dksX0_owner_1 15 rfl rfl)
theorem dX0_owner_39 : decode cX0_owner 39 = .ok (.putfield 124, 3) := dk_181 0 124 (dk_at dksX0_owner_1 16 rfl rfl)
theorem dX0_owner_42 : decode cX0_owner 42 = .ok (.aload_n 0, 1) := dk_42 (dk_at dksX0_owner_1 19 rfl rfl)
theorem dX0_owner_43 : decode cX0_owner 43 = .ok (.getfield 32, 3) := dk_180 0 32 (dk_at dksX0_owner_1 20 rfl rfl)
theorem dX0_owner_46 : decode cX0_owner 46 = .ok (.getfield 7, 3) := dk_180 0 7 (dk_at dksX0_owner_2 0 rfl rfl)
theorem dX0_owner_49 : decode cX0_owner 49 = .ok (.aload_n 1, 1) := dk_43 (dk_at dksX0_owner_2 3 rfl rfl)
theorem dX0_owner_50 : decode cX0_owner 50 = .ok (.invokevirtual 13, 3) := dk_182 0 13 (dk_at dksX0_owner_2 4 rfl rfl)
theorem dX0_owner_53 : decode cX0_owner 53 = .ok (.pop, 1) := dk_87 (dk_at dksX0_owner_2 7 rfl rfl)
theorem dX0_owner_54 : decode cX0_owner 54 = .ok (.aload_n 0, 1) := dk_42 (dk_at dksX0_owner_2 8 rfl rfl)
theorem dX0_owner_55 : decode cX0_owner 55 = .ok (.getfield 32, 3) := dk_180 0 32 (dk_at dksX0_owner_2 9 rfl rfl)
theorem dX0_owner_58 : decode cX0_owner 58 = .ok (.iconst 0, 1) := dk_3 (dk_at dksX0_owner_2 12 rfl rfl)
theorem dX0_owner_59 : decode cX0_owner 59 = .ok (.aload_n 0, 1) := dk_42 (dk_at dksX0_owner_2 13 rfl rfl)
theorem dX0_owner_60 : decode cX0_owner 60 = .ok (.getfield 32, 3) := dk_180 0 32 (dk_at dksX0_owner_2 14 rfl rfl)
theorem dX0_owner_63 : decode cX0_owner 63 = .ok (.getfield 7, 3) := dk_180 0 7 (dk_at dksX0_owner_2 17 rfl rfl)
theorem dX0_owner_66 : decode cX0_owner 66 = .ok (.invokevirtual 92, 3) := dk_182 0 92 (dk_at dksX0_owner_2 20 rfl rfl)
theorem dX0_owner_69 : decode cX0_owner 69 = .ok (.iconst 1, 1) := dk_4 (dk_at dksX0_owner_2 23 rfl rfl)
theorem dX0_owner_70 : decode cX0_owner 70 = .ok (.isub, 1) := dk_100 (dk_at dksX0_owner_3 0 rfl rfl)
theorem dX0_owner_71 : decode cX0_owner 71 = .ok (.aload_n 1, 1) := dk_43 (dk_at dksX0_owner_3 1 rfl rfl)
theorem dX0_owner_72 : decode cX0_owner 72 = .ok (.invokevirtual 157, 3) := dk_182 0 157 (dk_at dksX0_owner_3 2 rfl rfl)
theorem dX0_owner_75 : decode cX0_owner 75 = .ok (.invokevirtual 200, 3) := dk_182 0 200 (dk_at dksX0_owner_3 5 rfl rfl)
theorem dX0_owner_78 : decode cX0_owner 78 = .ok (.aload_n 0, 1) := dk_42 (dk_at dksX0_owner_3 8 rfl rfl)
theorem dX0_owner_79 : decode cX0_owner 79 = .ok (.aload_n 2, 1) := dk_44 (dk_at dksX0_owner_3 9 rfl rfl)
theorem dX0_owner_80 : decode cX0_owner 80 = .ok (.aload_n 0, 1) := dk_42 (dk_at dksX0_owner_3 10 rfl rfl)
theorem dX0_owner_81 : decode cX0_owner 81 = .ok (.getfield 32, 3) := dk_180 0 32 (dk_at dksX0_owner_3 11 rfl rfl)
theorem dX0_owner_84 : decode cX0_owner 84 = .ok (.getfield 7, 3) := dk_180 0 7 (dk_at dksX0_owner_3 14 rfl rfl)
theorem dX0_owner_87 : decode cX0_owner 87 = .ok (.invokevirtual 92, 3) := dk_182 0 92 (dk_at dksX0_owner_3 17 rfl rfl)
theorem dX0_owner_90 : decode cX0_owner 90 = .ok (.iconst 1, 1) := dk_4 (dk_at dksX0_owner_3 20 rfl rfl)
theorem dX0_owner_91 : decode cX0_owner 91 = .ok (.isub, 1) := dk_100 (dk_at dksX0_owner_3 21 rfl rfl)
theorem dX0_owner_92 : decode cX0_owner 92 = .ok (.invokevirtual 93, 3) := dk_182 0 93 (dk_at dksX0_owner_4 0 rfl rfl)
theorem dX0_owner_95 : decode cX0_owner 95 = .ok (.ireturn, 1) := dk_172 (dk_at dksX0_owner_4 3 rfl rfl)
abbrev cX0_newName : ByteArray := prog_1_method_22_code
def yX0_newName : MethodName := ⟨RX0, "newName", "()Ljava/lang/String;"⟩
def dkwX0_newName_4 : List UInt8 := [154, 0, 7, 45, 167, 0, 4, 1, 176]
abbrev dktX0_newName_4 : List UInt8 := dkwX0_newName_4 ++ []
def dkwX0_newName_3 : List UInt8 := [153, 0, 29, 45, 184, 0, 190, 5, 160, 0, 21, 42, 180, 0, 32, 180, 0, 7, 45, 182, 0, 194]
abbrev dktX0_newName_3 : List UInt8 := dkwX0_newName_3 ++ dktX0_newName_4
def dkwX0_newName_2 : List UInt8 := [43, 42, 180, 0, 47, 29, 51, 146, 182, 0, 182, 87, 132, 3, 1, 167, 255, 215, 43, 182, 0, 186, 78, 28]
abbrev dktX0_newName_2 : List UInt8 := dkwX0_newName_2 ++ dktX0_newName_3
def dkwX0_newName_1 : List UInt8 := [180, 0, 124, 162, 0, 39, 28, 153, 0, 35, 42, 180, 0, 47, 29, 51, 16, 97, 16, 122, 184, 0, 78, 61]
abbrev dktX0_newName_1 : List UInt8 := dkwX0_newName_1 ++ dktX0_newName_2
def dkwX0_newName_0 : List UInt8 := [187, 0, 179, 89, 183, 0, 181, 76, 42, 180, 0, 124, 4, 8, 184, 0, 78, 61, 3, 62, 29, 42]
abbrev dktX0_newName_0 : List UInt8 := dkwX0_newName_0 ++ dktX0_newName_1
theorem dksX0_newName_0 : cX0_newName.data.toList.drop 0 = dktX0_newName_0 := by decide +kernel
theorem dksX0_newName_1 : cX0_newName.data.toList.drop 22 = dktX0_newName_1 := dk_seg dksX0_newName_0 22 rfl rfl
theorem dksX0_newName_2 : cX0_newName.data.toList.drop 46 = dktX0_newName_2 := dk_seg dksX0_newName_1 24 rfl rfl
theorem dksX0_newName_3 : cX0_newName.data.toList.drop 70 = dktX0_newName_3 := dk_seg dksX0_newName_2 24 rfl rfl
theorem dksX0_newName_4 : cX0_newName.data.toList.drop 92 = dktX0_newName_4 := dk_seg dksX0_newName_3 22 rfl rfl
theorem dX0_newName_0 : decode cX0_newName 0 = .ok (.new 179, 3) := dk_187 0 179 (dk_at dksX0_newName_0 0 rfl rfl)
theorem dX0_newName_3 : decode cX0_newName 3 = .ok (.dup, 1) := dk_89 (dk_at dksX0_newName_0 3 rfl rfl)
theorem dX0_newName_4 : decode cX0_newName 4 = .ok (.invokespecial 181, 3) := dk_183 0 181 (dk_at dksX0_newName_0 4 rfl rfl)
theorem dX0_newName_7 : decode cX0_newName 7 = .ok (.astore_n 1, 1) := dk_76 (dk_at dksX0_newName_0 7 rfl rfl)
theorem dX0_newName_8 : decode cX0_newName 8 = .ok (.aload_n 0, 1) := dk_42 (dk_at dksX0_newName_0 8 rfl rfl)
theorem dX0_newName_9 : decode cX0_newName 9 = .ok (.getfield 124, 3) := dk_180 0 124 (dk_at dksX0_newName_0 9 rfl rfl)
theorem dX0_newName_12 : decode cX0_newName 12 = .ok (.iconst 1, 1) := dk_4 (dk_at dksX0_newName_0 12 rfl rfl)
theorem dX0_newName_13 : decode cX0_newName 13 = .ok (.iconst 5, 1) := dk_8 (dk_at dksX0_newName_0 13 rfl rfl)
theorem dX0_newName_14 : decode cX0_newName 14 = .ok (.invokestatic 78, 3) := dk_184 0 78 (dk_at dksX0_newName_0 14 rfl rfl)
theorem dX0_newName_17 : decode cX0_newName 17 = .ok (.istore_n 2, 1) := dk_61 (dk_at dksX0_newName_0 17 rfl rfl)
theorem dX0_newName_18 : decode cX0_newName 18 = .ok (.iconst 0, 1) := dk_3 (dk_at dksX0_newName_0 18 rfl rfl)
theorem dX0_newName_19 : decode cX0_newName 19 = .ok (.istore_n 3, 1) := dk_62 (dk_at dksX0_newName_0 19 rfl rfl)
theorem dX0_newName_20 : decode cX0_newName 20 = .ok (.iload_n 3, 1) := dk_29 (dk_at dksX0_newName_0 20 rfl rfl)
theorem dX0_newName_21 : decode cX0_newName 21 = .ok (.aload_n 0, 1) := dk_42 (dk_at dksX0_newName_0 21 rfl rfl)
theorem dX0_newName_22 : decode cX0_newName 22 = .ok (.getfield 124, 3) := dk_180 0 124 (dk_at dksX0_newName_1 0 rfl rfl)
theorem dX0_newName_25 : decode cX0_newName 25 = .ok (.if_icmp .ge 39, 3) := dk_162 0 39 (dk_at dksX0_newName_1 3 rfl rfl)
theorem dX0_newName_28 : decode cX0_newName 28 = .ok (.iload_n 2, 1) := dk_28 (dk_at dksX0_newName_1 6 rfl rfl)
theorem dX0_newName_29 : decode cX0_newName 29 = .ok (.ifCond .eq 35, 3) := dk_153 0 35 (dk_at dksX0_newName_1 7 rfl rfl)
theorem dX0_newName_32 : decode cX0_newName 32 = .ok (.aload_n 0, 1) := dk_42 (dk_at dksX0_newName_1 10 rfl rfl)
theorem dX0_newName_33 : decode cX0_newName 33 = .ok (.getfield 47, 3) := dk_180 0 47 (dk_at dksX0_newName_1 11 rfl rfl)
theorem dX0_newName_36 : decode cX0_newName 36 = .ok (.iload_n 3, 1) := dk_29 (dk_at dksX0_newName_1 14 rfl rfl)
theorem dX0_newName_37 : decode cX0_newName 37 = .ok (.baload, 1) := dk_51 (dk_at dksX0_newName_1 15 rfl rfl)
theorem dX0_newName_38 : decode cX0_newName 38 = .ok (.bipush 97, 2) := dk_16 97 (dk_at dksX0_newName_1 16 rfl rfl)
theorem dX0_newName_40 : decode cX0_newName 40 = .ok (.bipush 122, 2) := dk_16 122 (dk_at dksX0_newName_1 18 rfl rfl)
theorem dX0_newName_42 : decode cX0_newName 42 = .ok (.invokestatic 78, 3) := dk_184 0 78 (dk_at dksX0_newName_1 20 rfl rfl)
theorem dX0_newName_45 : decode cX0_newName 45 = .ok (.istore_n 2, 1) := dk_61 (dk_at dksX0_newName_1 23 rfl rfl)
theorem dX0_newName_46 : decode cX0_newName 46 = .ok (.aload_n 1, 1) := dk_43 (dk_at dksX0_newName_2 0 rfl rfl)
theorem dX0_newName_47 : decode cX0_newName 47 = .ok (.aload_n 0, 1) := dk_42 (dk_at dksX0_newName_2 1 rfl rfl)
theorem dX0_newName_48 : decode cX0_newName 48 = .ok (.getfield 47, 3) := dk_180 0 47 (dk_at dksX0_newName_2 2 rfl rfl)
theorem dX0_newName_51 : decode cX0_newName 51 = .ok (.iload_n 3, 1) := dk_29 (dk_at dksX0_newName_2 5 rfl rfl)
theorem dX0_newName_52 : decode cX0_newName 52 = .ok (.baload, 1) := dk_51 (dk_at dksX0_newName_2 6 rfl rfl)
theorem dX0_newName_53 : decode cX0_newName 53 = .ok (.i2c, 1) := dk_146 (dk_at dksX0_newName_2 7 rfl rfl)
theorem dX0_newName_54 : decode cX0_newName 54 = .ok (.invokevirtual 182, 3) := dk_182 0 182 (dk_at dksX0_newName_2 8 rfl rfl)
theorem dX0_newName_57 : decode cX0_newName 57 = .ok (.pop, 1) := dk_87 (dk_at dksX0_newName_2 11 rfl rfl)
theorem dX0_newName_58 : decode cX0_newName 58 = .ok (.iinc 3 1, 3) := dk_132 3 1 (dk_at dksX0_newName_2 12 rfl rfl)
theorem dX0_newName_61 : decode cX0_newName 61 = .ok (.goto (-41), 3) := dk_167 255 215 (dk_at dksX0_newName_2 15 rfl rfl)
theorem dX0_newName_64 : decode cX0_newName 64 = .ok (.aload_n 1, 1) := dk_43 (dk_at dksX0_newName_2 18 rfl rfl)
theorem dX0_newName_65 : decode cX0_newName 65 = .ok (.invokevirtual 186, 3) := dk_182 0 186 (dk_at dksX0_newName_2 19 rfl rfl)
theorem dX0_newName_68 : decode cX0_newName 68 = .ok (.astore_n 3, 1) := dk_78 (dk_at dksX0_newName_2 22 rfl rfl)
theorem dX0_newName_69 : decode cX0_newName 69 = .ok (.iload_n 2, 1) := dk_28 (dk_at dksX0_newName_2 23 rfl rfl)
theorem dX0_newName_70 : decode cX0_newName 70 = .ok (.ifCond .eq 29, 3) := dk_153 0 29 (dk_at dksX0_newName_3 0 rfl rfl)
theorem dX0_newName_73 : decode cX0_newName 73 = .ok (.aload_n 3, 1) := dk_45 (dk_at dksX0_newName_3 3 rfl rfl)
theorem dX0_newName_74 : decode cX0_newName 74 = .ok (.invokestatic 190, 3) := dk_184 0 190 (dk_at dksX0_newName_3 4 rfl rfl)
theorem dX0_newName_77 : decode cX0_newName 77 = .ok (.iconst 2, 1) := dk_5 (dk_at dksX0_newName_3 7 rfl rfl)
theorem dX0_newName_78 : decode cX0_newName 78 = .ok (.if_icmp .ne 21, 3) := dk_160 0 21 (dk_at dksX0_newName_3 8 rfl rfl)
theorem dX0_newName_81 : decode cX0_newName 81 = .ok (.aload_n 0, 1) := dk_42 (dk_at dksX0_newName_3 11 rfl rfl)
theorem dX0_newName_82 : decode cX0_newName 82 = .ok (.getfield 32, 3) := dk_180 0 32 (dk_at dksX0_newName_3 12 rfl rfl)
theorem dX0_newName_85 : decode cX0_newName 85 = .ok (.getfield 7, 3) := dk_180 0 7 (dk_at dksX0_newName_3 15 rfl rfl)
theorem dX0_newName_88 : decode cX0_newName 88 = .ok (.aload_n 3, 1) := dk_45 (dk_at dksX0_newName_3 18 rfl rfl)
theorem dX0_newName_89 : decode cX0_newName 89 = .ok (.invokevirtual 194, 3) := dk_182 0 194 (dk_at dksX0_newName_3 19 rfl rfl)
theorem dX0_newName_92 : decode cX0_newName 92 = .ok (.ifCond .ne 7, 3) := dk_154 0 7 (dk_at dksX0_newName_4 0 rfl rfl)
theorem dX0_newName_95 : decode cX0_newName 95 = .ok (.aload_n 3, 1) := dk_45 (dk_at dksX0_newName_4 3 rfl rfl)
theorem dX0_newName_96 : decode cX0_newName 96 = .ok (.goto 4, 3) := dk_167 0 4 (dk_at dksX0_newName_4 4 rfl rfl)
theorem dX0_newName_99 : decode cX0_newName 99 = .ok (.aconst_null, 1) := dk_1 (dk_at dksX0_newName_4 7 rfl rfl)
theorem dX0_newName_100 : decode cX0_newName 100 = .ok (.areturn, 1) := dk_176 (dk_at dksX0_newName_4 8 rfl rfl)
abbrev cX0_rename : ByteArray := prog_1_method_24_code
def yX0_rename : MethodName := ⟨RX0, "rename", "(I)I"⟩
def dkwX0_rename_3 : List UInt8 := [182, 0, 93, 172]
abbrev dktX0_rename_3 : List UInt8 := dkwX0_rename_3 ++ []
def dkwX0_rename_2 : List UInt8 := [58, 4, 42, 180, 0, 32, 16, 12, 27, 44, 182, 0, 157, 182, 0, 200, 42, 45, 44, 182, 0, 157]
abbrev dktX0_rename_2 : List UInt8 := dkwX0_rename_2 ++ dktX0_rename_3
def dkwX0_rename_1 : List UInt8 := [182, 0, 86, 78, 42, 3, 181, 0, 124, 42, 180, 0, 32, 180, 0, 7, 27, 44, 182, 0, 206, 192, 0, 132]
abbrev dktX0_rename_1 : List UInt8 := dkwX0_rename_1 ++ dktX0_rename_2
def dkwX0_rename_0 : List UInt8 := [42, 182, 0, 197, 77, 42, 27, 182, 0, 203, 153, 0, 7, 44, 199, 0, 5, 2, 172, 42, 180, 0, 32]
abbrev dktX0_rename_0 : List UInt8 := dkwX0_rename_0 ++ dktX0_rename_1
theorem dksX0_rename_0 : cX0_rename.data.toList.drop 0 = dktX0_rename_0 := by decide +kernel
theorem dksX0_rename_1 : cX0_rename.data.toList.drop 23 = dktX0_rename_1 := dk_seg dksX0_rename_0 23 rfl rfl
theorem dksX0_rename_2 : cX0_rename.data.toList.drop 47 = dktX0_rename_2 := dk_seg dksX0_rename_1 24 rfl rfl
theorem dksX0_rename_3 : cX0_rename.data.toList.drop 69 = dktX0_rename_3 := dk_seg dksX0_rename_2 22 rfl rfl
theorem dX0_rename_0 : decode cX0_rename 0 = .ok (.aload_n 0, 1) := dk_42 (dk_at dksX0_rename_0 0 rfl rfl)
theorem dX0_rename_1 : decode cX0_rename 1 = .ok (.invokevirtual 197, 3) := dk_182 0 197 (dk_at dksX0_rename_0 1 rfl rfl)
theorem dX0_rename_4 : decode cX0_rename 4 = .ok (.astore_n 2, 1) := dk_77 (dk_at dksX0_rename_0 4 rfl rfl)
theorem dX0_rename_5 : decode cX0_rename 5 = .ok (.aload_n 0, 1) := dk_42 (dk_at dksX0_rename_0 5 rfl rfl)
theorem dX0_rename_6 : decode cX0_rename 6 = .ok (.iload_n 1, 1) := dk_27 (dk_at dksX0_rename_0 6 rfl rfl)
theorem dX0_rename_7 : decode cX0_rename 7 = .ok (.invokevirtual 203, 3) := dk_182 0 203 (dk_at dksX0_rename_0 7 rfl rfl)
theorem dX0_rename_10 : decode cX0_rename 10 = .ok (.ifCond .eq 7, 3) := dk_153 0 7 (dk_at dksX0_rename_0 10 rfl rfl)
theorem dX0_rename_13 : decode cX0_rename 13 = .ok (.aload_n 2, 1) := dk_44 (dk_at dksX0_rename_0 13 rfl rfl)
theorem dX0_rename_14 : decode cX0_rename 14 = .ok (.ifnonnull 5, 3) := dk_199 0 5 (dk_at dksX0_rename_0 14 rfl rfl)
theorem dX0_rename_17 : decode cX0_rename 17 = .ok (.iconst (-1), 1) := dk_2 (dk_at dksX0_rename_0 17 rfl rfl)
theorem dX0_rename_18 : decode cX0_rename 18 = .ok (.ireturn, 1) := dk_172 (dk_at dksX0_rename_0 18 rfl rfl)
theorem dX0_rename_19 : decode cX0_rename 19 = .ok (.aload_n 0, 1) := dk_42 (dk_at dksX0_rename_0 19 rfl rfl)
theorem dX0_rename_20 : decode cX0_rename 20 = .ok (.getfield 32, 3) := dk_180 0 32 (dk_at dksX0_rename_0 20 rfl rfl)
theorem dX0_rename_23 : decode cX0_rename 23 = .ok (.invokevirtual 86, 3) := dk_182 0 86 (dk_at dksX0_rename_1 0 rfl rfl)
theorem dX0_rename_26 : decode cX0_rename 26 = .ok (.astore_n 3, 1) := dk_78 (dk_at dksX0_rename_1 3 rfl rfl)
theorem dX0_rename_27 : decode cX0_rename 27 = .ok (.aload_n 0, 1) := dk_42 (dk_at dksX0_rename_1 4 rfl rfl)
theorem dX0_rename_28 : decode cX0_rename 28 = .ok (.iconst 0, 1) := dk_3 (dk_at dksX0_rename_1 5 rfl rfl)
theorem dX0_rename_29 : decode cX0_rename 29 = .ok (.putfield 124, 3) := dk_181 0 124 (dk_at dksX0_rename_1 6 rfl rfl)
theorem dX0_rename_32 : decode cX0_rename 32 = .ok (.aload_n 0, 1) := dk_42 (dk_at dksX0_rename_1 9 rfl rfl)
theorem dX0_rename_33 : decode cX0_rename 33 = .ok (.getfield 32, 3) := dk_180 0 32 (dk_at dksX0_rename_1 10 rfl rfl)
theorem dX0_rename_36 : decode cX0_rename 36 = .ok (.getfield 7, 3) := dk_180 0 7 (dk_at dksX0_rename_1 13 rfl rfl)
theorem dX0_rename_39 : decode cX0_rename 39 = .ok (.iload_n 1, 1) := dk_27 (dk_at dksX0_rename_1 16 rfl rfl)
theorem dX0_rename_40 : decode cX0_rename 40 = .ok (.aload_n 2, 1) := dk_44 (dk_at dksX0_rename_1 17 rfl rfl)
theorem dX0_rename_41 : decode cX0_rename 41 = .ok (.invokevirtual 206, 3) := dk_182 0 206 (dk_at dksX0_rename_1 18 rfl rfl)
theorem dX0_rename_44 : decode cX0_rename 44 = .ok (.checkcast 132, 3) := dk_192 0 132 (dk_at dksX0_rename_1 21 rfl rfl)
theorem dX0_rename_47 : decode cX0_rename 47 = .ok (.astore 4, 2) := dk_58 4 (dk_at dksX0_rename_2 0 rfl rfl)
theorem dX0_rename_49 : decode cX0_rename 49 = .ok (.aload_n 0, 1) := dk_42 (dk_at dksX0_rename_2 2 rfl rfl)
theorem dX0_rename_50 : decode cX0_rename 50 = .ok (.getfield 32, 3) := dk_180 0 32 (dk_at dksX0_rename_2 3 rfl rfl)
theorem dX0_rename_53 : decode cX0_rename 53 = .ok (.bipush 12, 2) := dk_16 12 (dk_at dksX0_rename_2 6 rfl rfl)
theorem dX0_rename_55 : decode cX0_rename 55 = .ok (.iload_n 1, 1) := dk_27 (dk_at dksX0_rename_2 8 rfl rfl)
theorem dX0_rename_56 : decode cX0_rename 56 = .ok (.aload_n 2, 1) := dk_44 (dk_at dksX0_rename_2 9 rfl rfl)
theorem dX0_rename_57 : decode cX0_rename 57 = .ok (.invokevirtual 157, 3) := dk_182 0 157 (dk_at dksX0_rename_2 10 rfl rfl)
theorem dX0_rename_60 : decode cX0_rename 60 = .ok (.invokevirtual 200, 3) := dk_182 0 200 (dk_at dksX0_rename_2 13 rfl rfl)
theorem dX0_rename_63 : decode cX0_rename 63 = .ok (.aload_n 0, 1) := dk_42 (dk_at dksX0_rename_2 16 rfl rfl)
theorem dX0_rename_64 : decode cX0_rename 64 = .ok (.aload_n 3, 1) := dk_45 (dk_at dksX0_rename_2 17 rfl rfl)
theorem dX0_rename_65 : decode cX0_rename 65 = .ok (.aload_n 2, 1) := dk_44 (dk_at dksX0_rename_2 18 rfl rfl)
theorem dX0_rename_66 : decode cX0_rename 66 = .ok (.invokevirtual 157, 3) := dk_182 0 157 (dk_at dksX0_rename_2 19 rfl rfl)
theorem dX0_rename_69 : decode cX0_rename 69 = .ok (.invokevirtual 93, 3) := dk_182 0 93 (dk_at dksX0_rename_3 0 rfl rfl)
theorem dX0_rename_72 : decode cX0_rename 72 = .ok (.ireturn, 1) := dk_172 (dk_at dksX0_rename_3 3 rfl rfl)
abbrev cX0_isOwner : ByteArray := prog_1_method_9_code
def yX0_isOwner : MethodName := ⟨RX0, "isOwner", "(I)Z"⟩
def dkwX0_isOwner_0 : List UInt8 := [27, 3, 42, 180, 0, 32, 180, 0, 7, 182, 0, 92, 4, 100, 184, 0, 78, 172]
abbrev dktX0_isOwner_0 : List UInt8 := dkwX0_isOwner_0 ++ []
theorem dksX0_isOwner_0 : cX0_isOwner.data.toList.drop 0 = dktX0_isOwner_0 := by decide +kernel
theorem dX0_isOwner_0 : decode cX0_isOwner 0 = .ok (.iload_n 1, 1) := dk_27 (dk_at dksX0_isOwner_0 0 rfl rfl)
theorem dX0_isOwner_1 : decode cX0_isOwner 1 = .ok (.iconst 0, 1) := dk_3 (dk_at dksX0_isOwner_0 1 rfl rfl)
theorem dX0_isOwner_2 : decode cX0_isOwner 2 = .ok (.aload_n 0, 1) := dk_42 (dk_at dksX0_isOwner_0 2 rfl rfl)
theorem dX0_isOwner_3 : decode cX0_isOwner 3 = .ok (.getfield 32, 3) := dk_180 0 32 (dk_at dksX0_isOwner_0 3 rfl rfl)
theorem dX0_isOwner_6 : decode cX0_isOwner 6 = .ok (.getfield 7, 3) := dk_180 0 7 (dk_at dksX0_isOwner_0 6 rfl rfl)
theorem dX0_isOwner_9 : decode cX0_isOwner 9 = .ok (.invokevirtual 92, 3) := dk_182 0 92 (dk_at dksX0_isOwner_0 9 rfl rfl)
theorem dX0_isOwner_12 : decode cX0_isOwner 12 = .ok (.iconst 1, 1) := dk_4 (dk_at dksX0_isOwner_0 12 rfl rfl)
theorem dX0_isOwner_13 : decode cX0_isOwner 13 = .ok (.isub, 1) := dk_100 (dk_at dksX0_isOwner_0 13 rfl rfl)
theorem dX0_isOwner_14 : decode cX0_isOwner 14 = .ok (.invokestatic 78, 3) := dk_184 0 78 (dk_at dksX0_isOwner_0 14 rfl rfl)
theorem dX0_isOwner_17 : decode cX0_isOwner 17 = .ok (.ireturn, 1) := dk_172 (dk_at dksX0_isOwner_0 17 rfl rfl)
abbrev cX0_split : ByteArray := prog_1_method_25_code
def yX0_split : MethodName := ⟨RX0, "split", "(III)I"⟩
def dkwX0_split_3 : List UInt8 := [182, 0, 200, 42, 25, 4, 21, 5, 182, 0, 93, 172]
abbrev dktX0_split_3 : List UInt8 := dkwX0_split_3 ++ []
def dkwX0_split_2 : List UInt8 := [58, 4, 42, 180, 0, 32, 27, 28, 29, 182, 0, 219, 54, 5, 42, 180, 0, 32, 4, 27, 21, 5]
abbrev dktX0_split_2 : List UInt8 := dkwX0_split_2 ++ dktX0_split_3
def dkwX0_split_1 : List UInt8 := [16, 252, 172, 42, 180, 0, 32, 182, 0, 216, 154, 0, 6, 16, 253, 172, 42, 180, 0, 32, 182, 0, 86]
abbrev dktX0_split_1 : List UInt8 := dkwX0_split_1 ++ dktX0_split_2
def dkwX0_split_0 : List UInt8 := [42, 27, 28, 29, 182, 0, 210, 154, 0, 5, 2, 172, 42, 180, 0, 32, 27, 182, 0, 213, 154, 0, 6]
abbrev dktX0_split_0 : List UInt8 := dkwX0_split_0 ++ dktX0_split_1
theorem dksX0_split_0 : cX0_split.data.toList.drop 0 = dktX0_split_0 := by decide +kernel
theorem dksX0_split_1 : cX0_split.data.toList.drop 23 = dktX0_split_1 := dk_seg dksX0_split_0 23 rfl rfl
theorem dksX0_split_2 : cX0_split.data.toList.drop 46 = dktX0_split_2 := dk_seg dksX0_split_1 23 rfl rfl
theorem dksX0_split_3 : cX0_split.data.toList.drop 68 = dktX0_split_3 := dk_seg dksX0_split_2 22 rfl rfl
theorem dX0_split_0 : decode cX0_split 0 = .ok (.aload_n 0, 1) := dk_42 (dk_at dksX0_split_0 0 rfl rfl)
theorem dX0_split_1 : decode cX0_split 1 = .ok (.iload_n 1, 1) := dk_27 (dk_at dksX0_split_0 1 rfl rfl)
theorem dX0_split_2 : decode cX0_split 2 = .ok (.iload_n 2, 1) := dk_28 (dk_at dksX0_split_0 2 rfl rfl)
theorem dX0_split_3 : decode cX0_split 3 = .ok (.iload_n 3, 1) := dk_29 (dk_at dksX0_split_0 3 rfl rfl)
theorem dX0_split_4 : decode cX0_split 4 = .ok (.invokevirtual 210, 3) := dk_182 0 210 (dk_at dksX0_split_0 4 rfl rfl)
theorem dX0_split_7 : decode cX0_split 7 = .ok (.ifCond .ne 5, 3) := dk_154 0 5 (dk_at dksX0_split_0 7 rfl rfl)
theorem dX0_split_10 : decode cX0_split 10 = .ok (.iconst (-1), 1) := dk_2 (dk_at dksX0_split_0 10 rfl rfl)
theorem dX0_split_11 : decode cX0_split 11 = .ok (.ireturn, 1) := dk_172 (dk_at dksX0_split_0 11 rfl rfl)
theorem dX0_split_12 : decode cX0_split 12 = .ok (.aload_n 0, 1) := dk_42 (dk_at dksX0_split_0 12 rfl rfl)
theorem dX0_split_13 : decode cX0_split 13 = .ok (.getfield 32, 3) := dk_180 0 32 (dk_at dksX0_split_0 13 rfl rfl)
theorem dX0_split_16 : decode cX0_split 16 = .ok (.iload_n 1, 1) := dk_27 (dk_at dksX0_split_0 16 rfl rfl)
theorem dX0_split_17 : decode cX0_split 17 = .ok (.invokevirtual 213, 3) := dk_182 0 213 (dk_at dksX0_split_0 17 rfl rfl)
theorem dX0_split_20 : decode cX0_split 20 = .ok (.ifCond .ne 6, 3) := dk_154 0 6 (dk_at dksX0_split_0 20 rfl rfl)
theorem dX0_split_23 : decode cX0_split 23 = .ok (.bipush (-4), 2) := dk_16 252 (dk_at dksX0_split_1 0 rfl rfl)
theorem dX0_split_25 : decode cX0_split 25 = .ok (.ireturn, 1) := dk_172 (dk_at dksX0_split_1 2 rfl rfl)
theorem dX0_split_26 : decode cX0_split 26 = .ok (.aload_n 0, 1) := dk_42 (dk_at dksX0_split_1 3 rfl rfl)
theorem dX0_split_27 : decode cX0_split 27 = .ok (.getfield 32, 3) := dk_180 0 32 (dk_at dksX0_split_1 4 rfl rfl)
theorem dX0_split_30 : decode cX0_split 30 = .ok (.invokevirtual 216, 3) := dk_182 0 216 (dk_at dksX0_split_1 7 rfl rfl)
theorem dX0_split_33 : decode cX0_split 33 = .ok (.ifCond .ne 6, 3) := dk_154 0 6 (dk_at dksX0_split_1 10 rfl rfl)
theorem dX0_split_36 : decode cX0_split 36 = .ok (.bipush (-3), 2) := dk_16 253 (dk_at dksX0_split_1 13 rfl rfl)
theorem dX0_split_38 : decode cX0_split 38 = .ok (.ireturn, 1) := dk_172 (dk_at dksX0_split_1 15 rfl rfl)
theorem dX0_split_39 : decode cX0_split 39 = .ok (.aload_n 0, 1) := dk_42 (dk_at dksX0_split_1 16 rfl rfl)
theorem dX0_split_40 : decode cX0_split 40 = .ok (.getfield 32, 3) := dk_180 0 32 (dk_at dksX0_split_1 17 rfl rfl)
theorem dX0_split_43 : decode cX0_split 43 = .ok (.invokevirtual 86, 3) := dk_182 0 86 (dk_at dksX0_split_1 20 rfl rfl)
theorem dX0_split_46 : decode cX0_split 46 = .ok (.astore 4, 2) := dk_58 4 (dk_at dksX0_split_2 0 rfl rfl)
theorem dX0_split_48 : decode cX0_split 48 = .ok (.aload_n 0, 1) := dk_42 (dk_at dksX0_split_2 2 rfl rfl)
theorem dX0_split_49 : decode cX0_split 49 = .ok (.getfield 32, 3) := dk_180 0 32 (dk_at dksX0_split_2 3 rfl rfl)
theorem dX0_split_52 : decode cX0_split 52 = .ok (.iload_n 1, 1) := dk_27 (dk_at dksX0_split_2 6 rfl rfl)
theorem dX0_split_53 : decode cX0_split 53 = .ok (.iload_n 2, 1) := dk_28 (dk_at dksX0_split_2 7 rfl rfl)
theorem dX0_split_54 : decode cX0_split 54 = .ok (.iload_n 3, 1) := dk_29 (dk_at dksX0_split_2 8 rfl rfl)
theorem dX0_split_55 : decode cX0_split 55 = .ok (.invokevirtual 219, 3) := dk_182 0 219 (dk_at dksX0_split_2 9 rfl rfl)
theorem dX0_split_58 : decode cX0_split 58 = .ok (.istore 5, 2) := dk_54 5 (dk_at dksX0_split_2 12 rfl rfl)
theorem dX0_split_60 : decode cX0_split 60 = .ok (.aload_n 0, 1) := dk_42 (dk_at dksX0_split_2 14 rfl rfl)
theorem dX0_split_61 : decode cX0_split 61 = .ok (.getfield 32, 3) := dk_180 0 32 (dk_at dksX0_split_2 15 rfl rfl)
theorem dX0_split_64 : decode cX0_split 64 = .ok (.iconst 1, 1) := dk_4 (dk_at dksX0_split_2 18 rfl rfl)
theorem dX0_split_65 : decode cX0_split 65 = .ok (.iload_n 1, 1) := dk_27 (dk_at dksX0_split_2 19 rfl rfl)
theorem dX0_split_66 : decode cX0_split 66 = .ok (.iload 5, 2) := dk_21 5 (dk_at dksX0_split_2 20 rfl rfl)
theorem dX0_split_68 : decode cX0_split 68 = .ok (.invokevirtual 200, 3) := dk_182 0 200 (dk_at dksX0_split_3 0 rfl rfl)
theorem dX0_split_71 : decode cX0_split 71 = .ok (.aload_n 0, 1) := dk_42 (dk_at dksX0_split_3 3 rfl rfl)
theorem dX0_split_72 : decode cX0_split 72 = .ok (.aload 4, 2) := dk_25 4 (dk_at dksX0_split_3 4 rfl rfl)
theorem dX0_split_74 : decode cX0_split 74 = .ok (.iload 5, 2) := dk_21 5 (dk_at dksX0_split_3 6 rfl rfl)
theorem dX0_split_76 : decode cX0_split 76 = .ok (.invokevirtual 93, 3) := dk_182 0 93 (dk_at dksX0_split_3 8 rfl rfl)
theorem dX0_split_79 : decode cX0_split 79 = .ok (.ireturn, 1) := dk_172 (dk_at dksX0_split_3 11 rfl rfl)
abbrev cX0_isSplit : ByteArray := prog_1_method_15_code
def yX0_isSplit : MethodName := ⟨RX0, "isSplit", "(III)Z"⟩
def dkwX0_isSplit_1 : List UInt8 := [29, 184, 0, 120, 153, 0, 7, 4, 167, 0, 4, 3, 172]
abbrev dktX0_isSplit_1 : List UInt8 := dkwX0_isSplit_1 ++ []
def dkwX0_isSplit_0 : List UInt8 := [42, 27, 182, 0, 110, 153, 0, 30, 28, 184, 0, 113, 153, 0, 23, 42, 180, 0, 32, 27, 182, 0, 116, 28]
abbrev dktX0_isSplit_0 : List UInt8 := dkwX0_isSplit_0 ++ dktX0_isSplit_1
theorem dksX0_isSplit_0 : cX0_isSplit.data.toList.drop 0 = dktX0_isSplit_0 := by decide +kernel
theorem dksX0_isSplit_1 : cX0_isSplit.data.toList.drop 24 = dktX0_isSplit_1 := dk_seg dksX0_isSplit_0 24 rfl rfl
theorem dX0_isSplit_0 : decode cX0_isSplit 0 = .ok (.aload_n 0, 1) := dk_42 (dk_at dksX0_isSplit_0 0 rfl rfl)
theorem dX0_isSplit_1 : decode cX0_isSplit 1 = .ok (.iload_n 1, 1) := dk_27 (dk_at dksX0_isSplit_0 1 rfl rfl)
theorem dX0_isSplit_2 : decode cX0_isSplit 2 = .ok (.invokevirtual 110, 3) := dk_182 0 110 (dk_at dksX0_isSplit_0 2 rfl rfl)
theorem dX0_isSplit_5 : decode cX0_isSplit 5 = .ok (.ifCond .eq 30, 3) := dk_153 0 30 (dk_at dksX0_isSplit_0 5 rfl rfl)
theorem dX0_isSplit_8 : decode cX0_isSplit 8 = .ok (.iload_n 2, 1) := dk_28 (dk_at dksX0_isSplit_0 8 rfl rfl)
theorem dX0_isSplit_9 : decode cX0_isSplit 9 = .ok (.invokestatic 113, 3) := dk_184 0 113 (dk_at dksX0_isSplit_0 9 rfl rfl)
theorem dX0_isSplit_12 : decode cX0_isSplit 12 = .ok (.ifCond .eq 23, 3) := dk_153 0 23 (dk_at dksX0_isSplit_0 12 rfl rfl)
theorem dX0_isSplit_15 : decode cX0_isSplit 15 = .ok (.aload_n 0, 1) := dk_42 (dk_at dksX0_isSplit_0 15 rfl rfl)
theorem dX0_isSplit_16 : decode cX0_isSplit 16 = .ok (.getfield 32, 3) := dk_180 0 32 (dk_at dksX0_isSplit_0 16 rfl rfl)
theorem dX0_isSplit_19 : decode cX0_isSplit 19 = .ok (.iload_n 1, 1) := dk_27 (dk_at dksX0_isSplit_0 19 rfl rfl)
theorem dX0_isSplit_20 : decode cX0_isSplit 20 = .ok (.invokevirtual 116, 3) := dk_182 0 116 (dk_at dksX0_isSplit_0 20 rfl rfl)
theorem dX0_isSplit_23 : decode cX0_isSplit 23 = .ok (.iload_n 2, 1) := dk_28 (dk_at dksX0_isSplit_0 23 rfl rfl)
theorem dX0_isSplit_24 : decode cX0_isSplit 24 = .ok (.iload_n 3, 1) := dk_29 (dk_at dksX0_isSplit_1 0 rfl rfl)
theorem dX0_isSplit_25 : decode cX0_isSplit 25 = .ok (.invokestatic 120, 3) := dk_184 0 120 (dk_at dksX0_isSplit_1 1 rfl rfl)
theorem dX0_isSplit_28 : decode cX0_isSplit 28 = .ok (.ifCond .eq 7, 3) := dk_153 0 7 (dk_at dksX0_isSplit_1 4 rfl rfl)
theorem dX0_isSplit_31 : decode cX0_isSplit 31 = .ok (.iconst 1, 1) := dk_4 (dk_at dksX0_isSplit_1 7 rfl rfl)
theorem dX0_isSplit_32 : decode cX0_isSplit 32 = .ok (.goto 4, 3) := dk_167 0 4 (dk_at dksX0_isSplit_1 8 rfl rfl)
theorem dX0_isSplit_35 : decode cX0_isSplit 35 = .ok (.iconst 0, 1) := dk_3 (dk_at dksX0_isSplit_1 11 rfl rfl)
theorem dX0_isSplit_36 : decode cX0_isSplit 36 = .ok (.ireturn, 1) := dk_172 (dk_at dksX0_isSplit_1 12 rfl rfl)
abbrev cX0_isParcel : ByteArray := prog_1_method_10_code
def yX0_isParcel : MethodName := ⟨RX0, "isParcel", "(I)Z"⟩
def dkwX0_isParcel_0 : List UInt8 := [27, 3, 42, 180, 0, 32, 180, 0, 89, 182, 0, 92, 4, 100, 184, 0, 78, 172]
abbrev dktX0_isParcel_0 : List UInt8 := dkwX0_isParcel_0 ++ []
theorem dksX0_isParcel_0 : cX0_isParcel.data.toList.drop 0 = dktX0_isParcel_0 := by decide +kernel
theorem dX0_isParcel_0 : decode cX0_isParcel 0 = .ok (.iload_n 1, 1) := dk_27 (dk_at dksX0_isParcel_0 0 rfl rfl)
theorem dX0_isParcel_1 : decode cX0_isParcel 1 = .ok (.iconst 0, 1) := dk_3 (dk_at dksX0_isParcel_0 1 rfl rfl)
theorem dX0_isParcel_2 : decode cX0_isParcel 2 = .ok (.aload_n 0, 1) := dk_42 (dk_at dksX0_isParcel_0 2 rfl rfl)
theorem dX0_isParcel_3 : decode cX0_isParcel 3 = .ok (.getfield 32, 3) := dk_180 0 32 (dk_at dksX0_isParcel_0 3 rfl rfl)
theorem dX0_isParcel_6 : decode cX0_isParcel 6 = .ok (.getfield 89, 3) := dk_180 0 89 (dk_at dksX0_isParcel_0 6 rfl rfl)
theorem dX0_isParcel_9 : decode cX0_isParcel 9 = .ok (.invokevirtual 92, 3) := dk_182 0 92 (dk_at dksX0_isParcel_0 9 rfl rfl)
theorem dX0_isParcel_12 : decode cX0_isParcel 12 = .ok (.iconst 1, 1) := dk_4 (dk_at dksX0_isParcel_0 12 rfl rfl)
theorem dX0_isParcel_13 : decode cX0_isParcel 13 = .ok (.isub, 1) := dk_100 (dk_at dksX0_isParcel_0 13 rfl rfl)
theorem dX0_isParcel_14 : decode cX0_isParcel 14 = .ok (.invokestatic 78, 3) := dk_184 0 78 (dk_at dksX0_isParcel_0 14 rfl rfl)
theorem dX0_isParcel_17 : decode cX0_isParcel 17 = .ok (.ireturn, 1) := dk_172 (dk_at dksX0_isParcel_0 17 rfl rfl)
abbrev cX0_isFlag : ByteArray := prog_1_method_13_code
def yX0_isFlag : MethodName := ⟨RX0, "isFlag", "(I)Z"⟩
def dkwX0_isFlag_0 : List UInt8 := [26, 3, 4, 184, 0, 78, 172]
abbrev dktX0_isFlag_0 : List UInt8 := dkwX0_isFlag_0 ++ []
theorem dksX0_isFlag_0 : cX0_isFlag.data.toList.drop 0 = dktX0_isFlag_0 := by decide +kernel
theorem dX0_isFlag_0 : decode cX0_isFlag 0 = .ok (.iload_n 0, 1) := dk_26 (dk_at dksX0_isFlag_0 0 rfl rfl)
theorem dX0_isFlag_1 : decode cX0_isFlag 1 = .ok (.iconst 0, 1) := dk_3 (dk_at dksX0_isFlag_0 1 rfl rfl)
theorem dX0_isFlag_2 : decode cX0_isFlag 2 = .ok (.iconst 1, 1) := dk_4 (dk_at dksX0_isFlag_0 2 rfl rfl)
theorem dX0_isFlag_3 : decode cX0_isFlag 3 = .ok (.invokestatic 78, 3) := dk_184 0 78 (dk_at dksX0_isFlag_0 3 rfl rfl)
theorem dX0_isFlag_6 : decode cX0_isFlag 6 = .ok (.ireturn, 1) := dk_172 (dk_at dksX0_isFlag_0 6 rfl rfl)
abbrev cX0_join : ByteArray := prog_1_method_26_code
def yX0_join : MethodName := ⟨RX0, "join", "(II)I"⟩
def dkwX0_join_4 : List UInt8 := [28, 184, 0, 233, 21, 4, 182, 0, 200, 42, 45, 21, 4, 182, 0, 93, 172]
abbrev dktX0_join_4 : List UInt8 := dkwX0_join_4 ++ []
def dkwX0_join_3 : List UInt8 := [180, 0, 32, 182, 0, 86, 78, 42, 180, 0, 32, 27, 28, 182, 0, 230, 54, 4, 42, 180, 0, 32, 5, 27]
abbrev dktX0_join_3 : List UInt8 := dkwX0_join_3 ++ dktX0_join_4
def dkwX0_join_2 : List UInt8 := [159, 0, 18, 42, 180, 0, 32, 180, 0, 227, 182, 0, 92, 16, 60, 160, 0, 6, 16, 253, 172, 42]
abbrev dktX0_join_2 : List UInt8 := dkwX0_join_2 ++ dktX0_join_3
def dkwX0_join_1 : List UInt8 := [27, 28, 182, 0, 223, 153, 0, 6, 16, 252, 172, 42, 180, 0, 32, 180, 0, 89, 182, 0, 92, 16, 40]
abbrev dktX0_join_1 : List UInt8 := dkwX0_join_1 ++ dktX0_join_2
def dkwX0_join_0 : List UInt8 := [42, 27, 182, 0, 110, 153, 0, 16, 42, 28, 182, 0, 110, 153, 0, 8, 27, 28, 160, 0, 5, 2, 172, 42]
abbrev dktX0_join_0 : List UInt8 := dkwX0_join_0 ++ dktX0_join_1
theorem dksX0_join_0 : cX0_join.data.toList.drop 0 = dktX0_join_0 := by decide +kernel
theorem dksX0_join_1 : cX0_join.data.toList.drop 24 = dktX0_join_1 := dk_seg dksX0_join_0 24 rfl rfl
theorem dksX0_join_2 : cX0_join.data.toList.drop 47 = dktX0_join_2 := dk_seg dksX0_join_1 23 rfl rfl
theorem dksX0_join_3 : cX0_join.data.toList.drop 69 = dktX0_join_3 := dk_seg dksX0_join_2 22 rfl rfl
theorem dksX0_join_4 : cX0_join.data.toList.drop 93 = dktX0_join_4 := dk_seg dksX0_join_3 24 rfl rfl
theorem dX0_join_0 : decode cX0_join 0 = .ok (.aload_n 0, 1) := dk_42 (dk_at dksX0_join_0 0 rfl rfl)
theorem dX0_join_1 : decode cX0_join 1 = .ok (.iload_n 1, 1) := dk_27 (dk_at dksX0_join_0 1 rfl rfl)
theorem dX0_join_2 : decode cX0_join 2 = .ok (.invokevirtual 110, 3) := dk_182 0 110 (dk_at dksX0_join_0 2 rfl rfl)
theorem dX0_join_5 : decode cX0_join 5 = .ok (.ifCond .eq 16, 3) := dk_153 0 16 (dk_at dksX0_join_0 5 rfl rfl)
theorem dX0_join_8 : decode cX0_join 8 = .ok (.aload_n 0, 1) := dk_42 (dk_at dksX0_join_0 8 rfl rfl)
theorem dX0_join_9 : decode cX0_join 9 = .ok (.iload_n 2, 1) := dk_28 (dk_at dksX0_join_0 9 rfl rfl)
theorem dX0_join_10 : decode cX0_join 10 = .ok (.invokevirtual 110, 3) := dk_182 0 110 (dk_at dksX0_join_0 10 rfl rfl)
theorem dX0_join_13 : decode cX0_join 13 = .ok (.ifCond .eq 8, 3) := dk_153 0 8 (dk_at dksX0_join_0 13 rfl rfl)
theorem dX0_join_16 : decode cX0_join 16 = .ok (.iload_n 1, 1) := dk_27 (dk_at dksX0_join_0 16 rfl rfl)
theorem dX0_join_17 : decode cX0_join 17 = .ok (.iload_n 2, 1) := dk_28 (dk_at dksX0_join_0 17 rfl rfl)
theorem dX0_join_18 : decode cX0_join 18 = .ok (.if_icmp .ne 5, 3) := dk_160 0 5 (dk_at dksX0_join_0 18 rfl rfl)
theorem dX0_join_21 : decode cX0_join 21 = .ok (.iconst (-1), 1) := dk_2 (dk_at dksX0_join_0 21 rfl rfl)
theorem dX0_join_22 : decode cX0_join 22 = .ok (.ireturn, 1) := dk_172 (dk_at dksX0_join_0 22 rfl rfl)
theorem dX0_join_23 : decode cX0_join 23 = .ok (.aload_n 0, 1) := dk_42 (dk_at dksX0_join_0 23 rfl rfl)
theorem dX0_join_24 : decode cX0_join 24 = .ok (.iload_n 1, 1) := dk_27 (dk_at dksX0_join_1 0 rfl rfl)
theorem dX0_join_25 : decode cX0_join 25 = .ok (.iload_n 2, 1) := dk_28 (dk_at dksX0_join_1 1 rfl rfl)
theorem dX0_join_26 : decode cX0_join 26 = .ok (.invokevirtual 223, 3) := dk_182 0 223 (dk_at dksX0_join_1 2 rfl rfl)
theorem dX0_join_29 : decode cX0_join 29 = .ok (.ifCond .eq 6, 3) := dk_153 0 6 (dk_at dksX0_join_1 5 rfl rfl)
theorem dX0_join_32 : decode cX0_join 32 = .ok (.bipush (-4), 2) := dk_16 252 (dk_at dksX0_join_1 8 rfl rfl)
theorem dX0_join_34 : decode cX0_join 34 = .ok (.ireturn, 1) := dk_172 (dk_at dksX0_join_1 10 rfl rfl)
theorem dX0_join_35 : decode cX0_join 35 = .ok (.aload_n 0, 1) := dk_42 (dk_at dksX0_join_1 11 rfl rfl)
theorem dX0_join_36 : decode cX0_join 36 = .ok (.getfield 32, 3) := dk_180 0 32 (dk_at dksX0_join_1 12 rfl rfl)
theorem dX0_join_39 : decode cX0_join 39 = .ok (.getfield 89, 3) := dk_180 0 89 (dk_at dksX0_join_1 15 rfl rfl)
theorem dX0_join_42 : decode cX0_join 42 = .ok (.invokevirtual 92, 3) := dk_182 0 92 (dk_at dksX0_join_1 18 rfl rfl)
theorem dX0_join_45 : decode cX0_join 45 = .ok (.bipush 40, 2) := dk_16 40 (dk_at dksX0_join_1 21 rfl rfl)
theorem dX0_join_47 : decode cX0_join 47 = .ok (.if_icmp .eq 18, 3) := dk_159 0 18 (dk_at dksX0_join_2 0 rfl rfl)
theorem dX0_join_50 : decode cX0_join 50 = .ok (.aload_n 0, 1) := dk_42 (dk_at dksX0_join_2 3 rfl rfl)
theorem dX0_join_51 : decode cX0_join 51 = .ok (.getfield 32, 3) := dk_180 0 32 (dk_at dksX0_join_2 4 rfl rfl)
theorem dX0_join_54 : decode cX0_join 54 = .ok (.getfield 227, 3) := dk_180 0 227 (dk_at dksX0_join_2 7 rfl rfl)
theorem dX0_join_57 : decode cX0_join 57 = .ok (.invokevirtual 92, 3) := dk_182 0 92 (dk_at dksX0_join_2 10 rfl rfl)
theorem dX0_join_60 : decode cX0_join 60 = .ok (.bipush 60, 2) := dk_16 60 (dk_at dksX0_join_2 13 rfl rfl)
theorem dX0_join_62 : decode cX0_join 62 = .ok (.if_icmp .ne 6, 3) := dk_160 0 6 (dk_at dksX0_join_2 15 rfl rfl)
theorem dX0_join_65 : decode cX0_join 65 = .ok (.bipush (-3), 2) := dk_16 253 (dk_at dksX0_join_2 18 rfl rfl)
theorem dX0_join_67 : decode cX0_join 67 = .ok (.ireturn, 1) := dk_172 (dk_at dksX0_join_2 20 rfl rfl)
theorem dX0_join_68 : decode cX0_join 68 = .ok (.aload_n 0, 1) := dk_42 (dk_at dksX0_join_2 21 rfl rfl)
theorem dX0_join_69 : decode cX0_join 69 = .ok (.getfield 32, 3) := dk_180 0 32 (dk_at dksX0_join_3 0 rfl rfl)
theorem dX0_join_72 : decode cX0_join 72 = .ok (.invokevirtual 86, 3) := dk_182 0 86 (dk_at dksX0_join_3 3 rfl rfl)
theorem dX0_join_75 : decode cX0_join 75 = .ok (.astore_n 3, 1) := dk_78 (dk_at dksX0_join_3 6 rfl rfl)
theorem dX0_join_76 : decode cX0_join 76 = .ok (.aload_n 0, 1) := dk_42 (dk_at dksX0_join_3 7 rfl rfl)
theorem dX0_join_77 : decode cX0_join 77 = .ok (.getfield 32, 3) := dk_180 0 32 (dk_at dksX0_join_3 8 rfl rfl)
theorem dX0_join_80 : decode cX0_join 80 = .ok (.iload_n 1, 1) := dk_27 (dk_at dksX0_join_3 11 rfl rfl)
theorem dX0_join_81 : decode cX0_join 81 = .ok (.iload_n 2, 1) := dk_28 (dk_at dksX0_join_3 12 rfl rfl)
theorem dX0_join_82 : decode cX0_join 82 = .ok (.invokevirtual 230, 3) := dk_182 0 230 (dk_at dksX0_join_3 13 rfl rfl)
theorem dX0_join_85 : decode cX0_join 85 = .ok (.istore 4, 2) := dk_54 4 (dk_at dksX0_join_3 16 rfl rfl)
theorem dX0_join_87 : decode cX0_join 87 = .ok (.aload_n 0, 1) := dk_42 (dk_at dksX0_join_3 18 rfl rfl)
theorem dX0_join_88 : decode cX0_join 88 = .ok (.getfield 32, 3) := dk_180 0 32 (dk_at dksX0_join_3 19 rfl rfl)
theorem dX0_join_91 : decode cX0_join 91 = .ok (.iconst 2, 1) := dk_5 (dk_at dksX0_join_3 22 rfl rfl)
theorem dX0_join_92 : decode cX0_join 92 = .ok (.iload_n 1, 1) := dk_27 (dk_at dksX0_join_3 23 rfl rfl)
theorem dX0_join_93 : decode cX0_join 93 = .ok (.iload_n 2, 1) := dk_28 (dk_at dksX0_join_4 0 rfl rfl)
theorem dX0_join_94 : decode cX0_join 94 = .ok (.invokestatic 233, 3) := dk_184 0 233 (dk_at dksX0_join_4 1 rfl rfl)
theorem dX0_join_97 : decode cX0_join 97 = .ok (.iload 4, 2) := dk_21 4 (dk_at dksX0_join_4 4 rfl rfl)
theorem dX0_join_99 : decode cX0_join 99 = .ok (.invokevirtual 200, 3) := dk_182 0 200 (dk_at dksX0_join_4 6 rfl rfl)
theorem dX0_join_102 : decode cX0_join 102 = .ok (.aload_n 0, 1) := dk_42 (dk_at dksX0_join_4 9 rfl rfl)
theorem dX0_join_103 : decode cX0_join 103 = .ok (.aload_n 3, 1) := dk_45 (dk_at dksX0_join_4 10 rfl rfl)
theorem dX0_join_104 : decode cX0_join 104 = .ok (.iload 4, 2) := dk_21 4 (dk_at dksX0_join_4 11 rfl rfl)
theorem dX0_join_106 : decode cX0_join 106 = .ok (.invokevirtual 93, 3) := dk_182 0 93 (dk_at dksX0_join_4 13 rfl rfl)
theorem dX0_join_109 : decode cX0_join 109 = .ok (.ireturn, 1) := dk_172 (dk_at dksX0_join_4 16 rfl rfl)
abbrev cX0_whyNot : ByteArray := prog_1_method_67_code
def yX0_whyNot : MethodName := ⟨RX0, "whyNot", "(II)I"⟩
def dkwX0_whyNot_3 : List UInt8 := [167, 255, 220, 3, 172]
abbrev dktX0_whyNot_3 : List UInt8 := dkwX0_whyNot_3 ++ []
def dkwX0_whyNot_2 : List UInt8 := [25, 6, 42, 180, 0, 32, 27, 28, 182, 1, 200, 153, 0, 9, 25, 6, 182, 1, 204, 172, 132, 5, 1]
abbrev dktX0_whyNot_2 : List UInt8 := dkwX0_whyNot_2 ++ dktX0_whyNot_3
def dkwX0_whyNot_1 : List UInt8 := [184, 1, 194, 78, 45, 190, 54, 4, 3, 54, 5, 21, 5, 21, 4, 162, 0, 35, 45, 21, 5, 50, 58, 6]
abbrev dktX0_whyNot_1 : List UInt8 := dkwX0_whyNot_1 ++ dktX0_whyNot_2
def dkwX0_whyNot_0 : List UInt8 := [42, 27, 182, 0, 110, 153, 0, 16, 42, 28, 182, 0, 110, 153, 0, 8, 27, 28, 160, 0, 5, 2, 172]
abbrev dktX0_whyNot_0 : List UInt8 := dkwX0_whyNot_0 ++ dktX0_whyNot_1
theorem dksX0_whyNot_0 : cX0_whyNot.data.toList.drop 0 = dktX0_whyNot_0 := by decide +kernel
theorem dksX0_whyNot_1 : cX0_whyNot.data.toList.drop 23 = dktX0_whyNot_1 := dk_seg dksX0_whyNot_0 23 rfl rfl
theorem dksX0_whyNot_2 : cX0_whyNot.data.toList.drop 47 = dktX0_whyNot_2 := dk_seg dksX0_whyNot_1 24 rfl rfl
theorem dksX0_whyNot_3 : cX0_whyNot.data.toList.drop 70 = dktX0_whyNot_3 := dk_seg dksX0_whyNot_2 23 rfl rfl
theorem dX0_whyNot_0 : decode cX0_whyNot 0 = .ok (.aload_n 0, 1) := dk_42 (dk_at dksX0_whyNot_0 0 rfl rfl)
theorem dX0_whyNot_1 : decode cX0_whyNot 1 = .ok (.iload_n 1, 1) := dk_27 (dk_at dksX0_whyNot_0 1 rfl rfl)
theorem dX0_whyNot_2 : decode cX0_whyNot 2 = .ok (.invokevirtual 110, 3) := dk_182 0 110 (dk_at dksX0_whyNot_0 2 rfl rfl)
theorem dX0_whyNot_5 : decode cX0_whyNot 5 = .ok (.ifCond .eq 16, 3) := dk_153 0 16 (dk_at dksX0_whyNot_0 5 rfl rfl)
theorem dX0_whyNot_8 : decode cX0_whyNot 8 = .ok (.aload_n 0, 1) := dk_42 (dk_at dksX0_whyNot_0 8 rfl rfl)
theorem dX0_whyNot_9 : decode cX0_whyNot 9 = .ok (.iload_n 2, 1) := dk_28 (dk_at dksX0_whyNot_0 9 rfl rfl)
theorem dX0_whyNot_10 : decode cX0_whyNot 10 = .ok (.invokevirtual 110, 3) := dk_182 0 110 (dk_at dksX0_whyNot_0 10 rfl rfl)
theorem dX0_whyNot_13 : decode cX0_whyNot 13 = .ok (.ifCond .eq 8, 3) := dk_153 0 8 (dk_at dksX0_whyNot_0 13 rfl rfl)
theorem dX0_whyNot_16 : decode cX0_whyNot 16 = .ok (.iload_n 1, 1) := dk_27 (dk_at dksX0_whyNot_0 16 rfl rfl)
theorem dX0_whyNot_17 : decode cX0_whyNot 17 = .ok (.iload_n 2, 1) := dk_28 (dk_at dksX0_whyNot_0 17 rfl rfl)
theorem dX0_whyNot_18 : decode cX0_whyNot 18 = .ok (.if_icmp .ne 5, 3) := dk_160 0 5 (dk_at dksX0_whyNot_0 18 rfl rfl)
theorem dX0_whyNot_21 : decode cX0_whyNot 21 = .ok (.iconst (-1), 1) := dk_2 (dk_at dksX0_whyNot_0 21 rfl rfl)
theorem dX0_whyNot_22 : decode cX0_whyNot 22 = .ok (.ireturn, 1) := dk_172 (dk_at dksX0_whyNot_0 22 rfl rfl)
theorem dX0_whyNot_23 : decode cX0_whyNot 23 = .ok (.invokestatic 450, 3) := dk_184 1 194 (dk_at dksX0_whyNot_1 0 rfl rfl)
theorem dX0_whyNot_26 : decode cX0_whyNot 26 = .ok (.astore_n 3, 1) := dk_78 (dk_at dksX0_whyNot_1 3 rfl rfl)
theorem dX0_whyNot_27 : decode cX0_whyNot 27 = .ok (.aload_n 3, 1) := dk_45 (dk_at dksX0_whyNot_1 4 rfl rfl)
theorem dX0_whyNot_28 : decode cX0_whyNot 28 = .ok (.arraylength, 1) := dk_190 (dk_at dksX0_whyNot_1 5 rfl rfl)
theorem dX0_whyNot_29 : decode cX0_whyNot 29 = .ok (.istore 4, 2) := dk_54 4 (dk_at dksX0_whyNot_1 6 rfl rfl)
theorem dX0_whyNot_31 : decode cX0_whyNot 31 = .ok (.iconst 0, 1) := dk_3 (dk_at dksX0_whyNot_1 8 rfl rfl)
theorem dX0_whyNot_32 : decode cX0_whyNot 32 = .ok (.istore 5, 2) := dk_54 5 (dk_at dksX0_whyNot_1 9 rfl rfl)
theorem dX0_whyNot_34 : decode cX0_whyNot 34 = .ok (.iload 5, 2) := dk_21 5 (dk_at dksX0_whyNot_1 11 rfl rfl)
theorem dX0_whyNot_36 : decode cX0_whyNot 36 = .ok (.iload 4, 2) := dk_21 4 (dk_at dksX0_whyNot_1 13 rfl rfl)
theorem dX0_whyNot_38 : decode cX0_whyNot 38 = .ok (.if_icmp .ge 35, 3) := dk_162 0 35 (dk_at dksX0_whyNot_1 15 rfl rfl)
theorem dX0_whyNot_41 : decode cX0_whyNot 41 = .ok (.aload_n 3, 1) := dk_45 (dk_at dksX0_whyNot_1 18 rfl rfl)
theorem dX0_whyNot_42 : decode cX0_whyNot 42 = .ok (.iload 5, 2) := dk_21 5 (dk_at dksX0_whyNot_1 19 rfl rfl)
theorem dX0_whyNot_44 : decode cX0_whyNot 44 = .ok (.aaload, 1) := dk_50 (dk_at dksX0_whyNot_1 21 rfl rfl)
theorem dX0_whyNot_45 : decode cX0_whyNot 45 = .ok (.astore 6, 2) := dk_58 6 (dk_at dksX0_whyNot_1 22 rfl rfl)
theorem dX0_whyNot_47 : decode cX0_whyNot 47 = .ok (.aload 6, 2) := dk_25 6 (dk_at dksX0_whyNot_2 0 rfl rfl)
theorem dX0_whyNot_49 : decode cX0_whyNot 49 = .ok (.aload_n 0, 1) := dk_42 (dk_at dksX0_whyNot_2 2 rfl rfl)
theorem dX0_whyNot_50 : decode cX0_whyNot 50 = .ok (.getfield 32, 3) := dk_180 0 32 (dk_at dksX0_whyNot_2 3 rfl rfl)
theorem dX0_whyNot_53 : decode cX0_whyNot 53 = .ok (.iload_n 1, 1) := dk_27 (dk_at dksX0_whyNot_2 6 rfl rfl)
theorem dX0_whyNot_54 : decode cX0_whyNot 54 = .ok (.iload_n 2, 1) := dk_28 (dk_at dksX0_whyNot_2 7 rfl rfl)
theorem dX0_whyNot_55 : decode cX0_whyNot 55 = .ok (.invokevirtual 456, 3) := dk_182 1 200 (dk_at dksX0_whyNot_2 8 rfl rfl)
theorem dX0_whyNot_58 : decode cX0_whyNot 58 = .ok (.ifCond .eq 9, 3) := dk_153 0 9 (dk_at dksX0_whyNot_2 11 rfl rfl)
theorem dX0_whyNot_61 : decode cX0_whyNot 61 = .ok (.aload 6, 2) := dk_25 6 (dk_at dksX0_whyNot_2 14 rfl rfl)
theorem dX0_whyNot_63 : decode cX0_whyNot 63 = .ok (.invokevirtual 460, 3) := dk_182 1 204 (dk_at dksX0_whyNot_2 16 rfl rfl)
theorem dX0_whyNot_66 : decode cX0_whyNot 66 = .ok (.ireturn, 1) := dk_172 (dk_at dksX0_whyNot_2 19 rfl rfl)
theorem dX0_whyNot_67 : decode cX0_whyNot 67 = .ok (.iinc 5 1, 3) := dk_132 5 1 (dk_at dksX0_whyNot_2 20 rfl rfl)
theorem dX0_whyNot_70 : decode cX0_whyNot 70 = .ok (.goto (-36), 3) := dk_167 255 220 (dk_at dksX0_whyNot_3 0 rfl rfl)
theorem dX0_whyNot_73 : decode cX0_whyNot 73 = .ok (.iconst 0, 1) := dk_3 (dk_at dksX0_whyNot_3 3 rfl rfl)
theorem dX0_whyNot_74 : decode cX0_whyNot 74 = .ok (.ireturn, 1) := dk_172 (dk_at dksX0_whyNot_3 4 rfl rfl)
abbrev cX0_give : ByteArray := prog_1_method_27_code
def yX0_give : MethodName := ⟨RX0, "give", "(IIII)I"⟩
def dkwX0_give_6 : List UInt8 := [180, 0, 32, 27, 182, 0, 238, 180, 0, 242, 29, 46, 182, 0, 93, 172]
abbrev dktX0_give_6 : List UInt8 := dkwX0_give_6 ++ []
def dkwX0_give_5 : List UInt8 := [21, 4, 182, 0, 250, 42, 180, 0, 32, 6, 27, 16, 100, 28, 104, 29, 96, 182, 0, 200, 42, 25, 5, 42]
abbrev dktX0_give_5 : List UInt8 := dkwX0_give_5 ++ dktX0_give_6
def dkwX0_give_4 : List UInt8 := [16, 60, 160, 0, 6, 16, 253, 172, 42, 180, 0, 32, 182, 0, 86, 58, 5, 42, 180, 0, 32, 27, 28, 29]
abbrev dktX0_give_4 : List UInt8 := dkwX0_give_4 ++ dktX0_give_5
def dkwX0_give_3 : List UInt8 := [16, 252, 172, 42, 180, 0, 32, 27, 182, 0, 247, 153, 0, 21, 42, 180, 0, 32, 180, 0, 227, 182, 0, 92]
abbrev dktX0_give_3 : List UInt8 := dkwX0_give_3 ++ dktX0_give_4
def dkwX0_give_2 : List UInt8 := [182, 0, 213, 153, 0, 21, 42, 180, 0, 32, 27, 182, 0, 238, 180, 0, 242, 28, 46, 21, 4, 162, 0, 6]
abbrev dktX0_give_2 : List UInt8 := dkwX0_give_2 ++ dktX0_give_3
def dkwX0_give_1 : List UInt8 := [28, 29, 159, 0, 14, 21, 4, 4, 16, 12, 184, 0, 78, 154, 0, 5, 2, 172, 42, 180, 0, 32, 27]
abbrev dktX0_give_1 : List UInt8 := dkwX0_give_1 ++ dktX0_give_2
def dkwX0_give_0 : List UInt8 := [42, 27, 182, 0, 110, 153, 0, 35, 42, 28, 182, 0, 203, 153, 0, 27, 42, 29, 182, 0, 203, 153, 0, 19]
abbrev dktX0_give_0 : List UInt8 := dkwX0_give_0 ++ dktX0_give_1
theorem dksX0_give_0 : cX0_give.data.toList.drop 0 = dktX0_give_0 := by decide +kernel
theorem dksX0_give_1 : cX0_give.data.toList.drop 24 = dktX0_give_1 := dk_seg dksX0_give_0 24 rfl rfl
theorem dksX0_give_2 : cX0_give.data.toList.drop 47 = dktX0_give_2 := dk_seg dksX0_give_1 23 rfl rfl
theorem dksX0_give_3 : cX0_give.data.toList.drop 71 = dktX0_give_3 := dk_seg dksX0_give_2 24 rfl rfl
theorem dksX0_give_4 : cX0_give.data.toList.drop 95 = dktX0_give_4 := dk_seg dksX0_give_3 24 rfl rfl
theorem dksX0_give_5 : cX0_give.data.toList.drop 119 = dktX0_give_5 := dk_seg dksX0_give_4 24 rfl rfl
theorem dksX0_give_6 : cX0_give.data.toList.drop 143 = dktX0_give_6 := dk_seg dksX0_give_5 24 rfl rfl
theorem dX0_give_0 : decode cX0_give 0 = .ok (.aload_n 0, 1) := dk_42 (dk_at dksX0_give_0 0 rfl rfl)
theorem dX0_give_1 : decode cX0_give 1 = .ok (.iload_n 1, 1) := dk_27 (dk_at dksX0_give_0 1 rfl rfl)
theorem dX0_give_2 : decode cX0_give 2 = .ok (.invokevirtual 110, 3) := dk_182 0 110 (dk_at dksX0_give_0 2 rfl rfl)
theorem dX0_give_5 : decode cX0_give 5 = .ok (.ifCond .eq 35, 3) := dk_153 0 35 (dk_at dksX0_give_0 5 rfl rfl)
theorem dX0_give_8 : decode cX0_give 8 = .ok (.aload_n 0, 1) := dk_42 (dk_at dksX0_give_0 8 rfl rfl)
theorem dX0_give_9 : decode cX0_give 9 = .ok (.iload_n 2, 1) := dk_28 (dk_at dksX0_give_0 9 rfl rfl)
theorem dX0_give_10 : decode cX0_give 10 = .ok (.invokevirtual 203, 3) := dk_182 0 203 (dk_at dksX0_give_0 10 rfl rfl)
theorem dX0_give_13 : decode cX0_give 13 = .ok (.ifCond .eq 27, 3) := dk_153 0 27 (dk_at dksX0_give_0 13 rfl rfl)
theorem dX0_give_16 : decode cX0_give 16 = .ok (.aload_n 0, 1) := dk_42 (dk_at dksX0_give_0 16 rfl rfl)
theorem dX0_give_17 : decode cX0_give 17 = .ok (.iload_n 3, 1) := dk_29 (dk_at dksX0_give_0 17 rfl rfl)
theorem dX0_give_18 : decode cX0_give 18 = .ok (.invokevirtual 203, 3) := dk_182 0 203 (dk_at dksX0_give_0 18 rfl rfl)
theorem dX0_give_21 : decode cX0_give 21 = .ok (.ifCond .eq 19, 3) := dk_153 0 19 (dk_at dksX0_give_0 21 rfl rfl)
theorem dX0_give_24 : decode cX0_give 24 = .ok (.iload_n 2, 1) := dk_28 (dk_at dksX0_give_1 0 rfl rfl)
theorem dX0_give_25 : decode cX0_give 25 = .ok (.iload_n 3, 1) := dk_29 (dk_at dksX0_give_1 1 rfl rfl)
theorem dX0_give_26 : decode cX0_give 26 = .ok (.if_icmp .eq 14, 3) := dk_159 0 14 (dk_at dksX0_give_1 2 rfl rfl)
theorem dX0_give_29 : decode cX0_give 29 = .ok (.iload 4, 2) := dk_21 4 (dk_at dksX0_give_1 5 rfl rfl)
theorem dX0_give_31 : decode cX0_give 31 = .ok (.iconst 1, 1) := dk_4 (dk_at dksX0_give_1 7 rfl rfl)
theorem dX0_give_32 : decode cX0_give 32 = .ok (.bipush 12, 2) := dk_16 12 (dk_at dksX0_give_1 8 rfl rfl)
theorem dX0_give_34 : decode cX0_give 34 = .ok (.invokestatic 78, 3) := dk_184 0 78 (dk_at dksX0_give_1 10 rfl rfl)
theorem dX0_give_37 : decode cX0_give 37 = .ok (.ifCond .ne 5, 3) := dk_154 0 5 (dk_at dksX0_give_1 13 rfl rfl)
theorem dX0_give_40 : decode cX0_give 40 = .ok (.iconst (-1), 1) := dk_2 (dk_at dksX0_give_1 16 rfl rfl)
theorem dX0_give_41 : decode cX0_give 41 = .ok (.ireturn, 1) := dk_172 (dk_at dksX0_give_1 17 rfl rfl)
theorem dX0_give_42 : decode cX0_give 42 = .ok (.aload_n 0, 1) := dk_42 (dk_at dksX0_give_1 18 rfl rfl)
theorem dX0_give_43 : decode cX0_give 43 = .ok (.getfield 32, 3) := dk_180 0 32 (dk_at dksX0_give_1 19 rfl rfl)
theorem dX0_give_46 : decode cX0_give 46 = .ok (.iload_n 1, 1) := dk_27 (dk_at dksX0_give_1 22 rfl rfl)
theorem dX0_give_47 : decode cX0_give 47 = .ok (.invokevirtual 213, 3) := dk_182 0 213 (dk_at dksX0_give_2 0 rfl rfl)
theorem dX0_give_50 : decode cX0_give 50 = .ok (.ifCond .eq 21, 3) := dk_153 0 21 (dk_at dksX0_give_2 3 rfl rfl)
theorem dX0_give_53 : decode cX0_give 53 = .ok (.aload_n 0, 1) := dk_42 (dk_at dksX0_give_2 6 rfl rfl)
theorem dX0_give_54 : decode cX0_give 54 = .ok (.getfield 32, 3) := dk_180 0 32 (dk_at dksX0_give_2 7 rfl rfl)
theorem dX0_give_57 : decode cX0_give 57 = .ok (.iload_n 1, 1) := dk_27 (dk_at dksX0_give_2 10 rfl rfl)
theorem dX0_give_58 : decode cX0_give 58 = .ok (.invokevirtual 238, 3) := dk_182 0 238 (dk_at dksX0_give_2 11 rfl rfl)
theorem dX0_give_61 : decode cX0_give 61 = .ok (.getfield 242, 3) := dk_180 0 242 (dk_at dksX0_give_2 14 rfl rfl)
theorem dX0_give_64 : decode cX0_give 64 = .ok (.iload_n 2, 1) := dk_28 (dk_at dksX0_give_2 17 rfl rfl)
theorem dX0_give_65 : decode cX0_give 65 = .ok (.iaload, 1) := dk_46 (dk_at dksX0_give_2 18 rfl rfl)
theorem dX0_give_66 : decode cX0_give 66 = .ok (.iload 4, 2) := dk_21 4 (dk_at dksX0_give_2 19 rfl rfl)
theorem dX0_give_68 : decode cX0_give 68 = .ok (.if_icmp .ge 6, 3) := dk_162 0 6 (dk_at dksX0_give_2 21 rfl rfl)
theorem dX0_give_71 : decode cX0_give 71 = .ok (.bipush (-4), 2) := dk_16 252 (dk_at dksX0_give_3 0 rfl rfl)
theorem dX0_give_73 : decode cX0_give 73 = .ok (.ireturn, 1) := dk_172 (dk_at dksX0_give_3 2 rfl rfl)
theorem dX0_give_74 : decode cX0_give 74 = .ok (.aload_n 0, 1) := dk_42 (dk_at dksX0_give_3 3 rfl rfl)
theorem dX0_give_75 : decode cX0_give 75 = .ok (.getfield 32, 3) := dk_180 0 32 (dk_at dksX0_give_3 4 rfl rfl)
theorem dX0_give_78 : decode cX0_give 78 = .ok (.iload_n 1, 1) := dk_27 (dk_at dksX0_give_3 7 rfl rfl)
theorem dX0_give_79 : decode cX0_give 79 = .ok (.invokevirtual 247, 3) := dk_182 0 247 (dk_at dksX0_give_3 8 rfl rfl)
theorem dX0_give_82 : decode cX0_give 82 = .ok (.ifCond .eq 21, 3) := dk_153 0 21 (dk_at dksX0_give_3 11 rfl rfl)
theorem dX0_give_85 : decode cX0_give 85 = .ok (.aload_n 0, 1) := dk_42 (dk_at dksX0_give_3 14 rfl rfl)
theorem dX0_give_86 : decode cX0_give 86 = .ok (.getfield 32, 3) := dk_180 0 32 (dk_at dksX0_give_3 15 rfl rfl)
theorem dX0_give_89 : decode cX0_give 89 = .ok (.getfield 227, 3) := dk_180 0 227 (dk_at dksX0_give_3 18 rfl rfl)
theorem dX0_give_92 : decode cX0_give 92 = .ok (.invokevirtual 92, 3) := dk_182 0 92 (dk_at dksX0_give_3 21 rfl rfl)
theorem dX0_give_95 : decode cX0_give 95 = .ok (.bipush 60, 2) := dk_16 60 (dk_at dksX0_give_4 0 rfl rfl)
theorem dX0_give_97 : decode cX0_give 97 = .ok (.if_icmp .ne 6, 3) := dk_160 0 6 (dk_at dksX0_give_4 2 rfl rfl)
theorem dX0_give_100 : decode cX0_give 100 = .ok (.bipush (-3), 2) := dk_16 253 (dk_at dksX0_give_4 5 rfl rfl)
theorem dX0_give_102 : decode cX0_give 102 = .ok (.ireturn, 1) := dk_172 (dk_at dksX0_give_4 7 rfl rfl)
theorem dX0_give_103 : decode cX0_give 103 = .ok (.aload_n 0, 1) := dk_42 (dk_at dksX0_give_4 8 rfl rfl)
theorem dX0_give_104 : decode cX0_give 104 = .ok (.getfield 32, 3) := dk_180 0 32 (dk_at dksX0_give_4 9 rfl rfl)
theorem dX0_give_107 : decode cX0_give 107 = .ok (.invokevirtual 86, 3) := dk_182 0 86 (dk_at dksX0_give_4 12 rfl rfl)
theorem dX0_give_110 : decode cX0_give 110 = .ok (.astore 5, 2) := dk_58 5 (dk_at dksX0_give_4 15 rfl rfl)
theorem dX0_give_112 : decode cX0_give 112 = .ok (.aload_n 0, 1) := dk_42 (dk_at dksX0_give_4 17 rfl rfl)
theorem dX0_give_113 : decode cX0_give 113 = .ok (.getfield 32, 3) := dk_180 0 32 (dk_at dksX0_give_4 18 rfl rfl)
theorem dX0_give_116 : decode cX0_give 116 = .ok (.iload_n 1, 1) := dk_27 (dk_at dksX0_give_4 21 rfl rfl)
theorem dX0_give_117 : decode cX0_give 117 = .ok (.iload_n 2, 1) := dk_28 (dk_at dksX0_give_4 22 rfl rfl)
theorem dX0_give_118 : decode cX0_give 118 = .ok (.iload_n 3, 1) := dk_29 (dk_at dksX0_give_4 23 rfl rfl)
theorem dX0_give_119 : decode cX0_give 119 = .ok (.iload 4, 2) := dk_21 4 (dk_at dksX0_give_5 0 rfl rfl)
theorem dX0_give_121 : decode cX0_give 121 = .ok (.invokevirtual 250, 3) := dk_182 0 250 (dk_at dksX0_give_5 2 rfl rfl)
theorem dX0_give_124 : decode cX0_give 124 = .ok (.aload_n 0, 1) := dk_42 (dk_at dksX0_give_5 5 rfl rfl)
theorem dX0_give_125 : decode cX0_give 125 = .ok (.getfield 32, 3) := dk_180 0 32 (dk_at dksX0_give_5 6 rfl rfl)
theorem dX0_give_128 : decode cX0_give 128 = .ok (.iconst 3, 1) := dk_6 (dk_at dksX0_give_5 9 rfl rfl)
theorem dX0_give_129 : decode cX0_give 129 = .ok (.iload_n 1, 1) := dk_27 (dk_at dksX0_give_5 10 rfl rfl)
theorem dX0_give_130 : decode cX0_give 130 = .ok (.bipush 100, 2) := dk_16 100 (dk_at dksX0_give_5 11 rfl rfl)
theorem dX0_give_132 : decode cX0_give 132 = .ok (.iload_n 2, 1) := dk_28 (dk_at dksX0_give_5 13 rfl rfl)
theorem dX0_give_133 : decode cX0_give 133 = .ok (.imul, 1) := dk_104 (dk_at dksX0_give_5 14 rfl rfl)
theorem dX0_give_134 : decode cX0_give 134 = .ok (.iload_n 3, 1) := dk_29 (dk_at dksX0_give_5 15 rfl rfl)
theorem dX0_give_135 : decode cX0_give 135 = .ok (.iadd, 1) := dk_96 (dk_at dksX0_give_5 16 rfl rfl)
theorem dX0_give_136 : decode cX0_give 136 = .ok (.invokevirtual 200, 3) := dk_182 0 200 (dk_at dksX0_give_5 17 rfl rfl)
theorem dX0_give_139 : decode cX0_give 139 = .ok (.aload_n 0, 1) := dk_42 (dk_at dksX0_give_5 20 rfl rfl)
theorem dX0_give_140 : decode cX0_give 140 = .ok (.aload 5, 2) := dk_25 5 (dk_at dksX0_give_5 21 rfl rfl)
theorem dX0_give_142 : decode cX0_give 142 = .ok (.aload_n 0, 1) := dk_42 (dk_at dksX0_give_5 23 rfl rfl)
theorem dX0_give_143 : decode cX0_give 143 = .ok (.getfield 32, 3) := dk_180 0 32 (dk_at dksX0_give_6 0 rfl rfl)
theorem dX0_give_146 : decode cX0_give 146 = .ok (.iload_n 1, 1) := dk_27 (dk_at dksX0_give_6 3 rfl rfl)
theorem dX0_give_147 : decode cX0_give 147 = .ok (.invokevirtual 238, 3) := dk_182 0 238 (dk_at dksX0_give_6 4 rfl rfl)
theorem dX0_give_150 : decode cX0_give 150 = .ok (.getfield 242, 3) := dk_180 0 242 (dk_at dksX0_give_6 7 rfl rfl)
theorem dX0_give_153 : decode cX0_give 153 = .ok (.iload_n 3, 1) := dk_29 (dk_at dksX0_give_6 10 rfl rfl)
theorem dX0_give_154 : decode cX0_give 154 = .ok (.iaload, 1) := dk_46 (dk_at dksX0_give_6 11 rfl rfl)
theorem dX0_give_155 : decode cX0_give 155 = .ok (.invokevirtual 93, 3) := dk_182 0 93 (dk_at dksX0_give_6 12 rfl rfl)
theorem dX0_give_158 : decode cX0_give 158 = .ok (.ireturn, 1) := dk_172 (dk_at dksX0_give_6 15 rfl rfl)
abbrev cX0_debt : ByteArray := prog_1_method_28_code
def yX0_debt : MethodName := ⟨RX0, "debt", "(III)I"⟩
def dkwX0_debt_5 : List UInt8 := [182, 0, 200, 42, 25, 4, 21, 5, 182, 0, 93, 172]
abbrev dktX0_debt_5 : List UInt8 := dkwX0_debt_5 ++ []
def dkwX0_debt_4 : List UInt8 := [180, 0, 32, 180, 1, 0, 28, 29, 183, 1, 3, 27, 182, 1, 5, 42, 180, 0, 32, 7, 21, 5, 29]
abbrev dktX0_debt_4 : List UInt8 := dkwX0_debt_4 ++ dktX0_debt_5
def dkwX0_debt_3 : List UInt8 := [180, 0, 32, 180, 0, 97, 182, 0, 92, 54, 5, 42, 180, 0, 32, 187, 0, 254, 89, 21, 5, 42]
abbrev dktX0_debt_3 : List UInt8 := dkwX0_debt_3 ++ dktX0_debt_4
def dkwX0_debt_2 : List UInt8 := [180, 0, 97, 182, 0, 92, 16, 20, 160, 0, 6, 16, 253, 172, 42, 180, 0, 32, 182, 0, 86, 58, 4, 42]
abbrev dktX0_debt_2 : List UInt8 := dkwX0_debt_2 ++ dktX0_debt_3
def dkwX0_debt_1 : List UInt8 := [154, 0, 5, 2, 172, 42, 180, 0, 32, 27, 182, 0, 213, 154, 0, 6, 16, 252, 172, 42, 180, 0, 32]
abbrev dktX0_debt_1 : List UInt8 := dkwX0_debt_1 ++ dktX0_debt_2
def dkwX0_debt_0 : List UInt8 := [42, 27, 182, 0, 110, 153, 0, 22, 42, 28, 182, 0, 203, 153, 0, 14, 29, 4, 17, 39, 15, 184, 0, 78]
abbrev dktX0_debt_0 : List UInt8 := dkwX0_debt_0 ++ dktX0_debt_1
theorem dksX0_debt_0 : cX0_debt.data.toList.drop 0 = dktX0_debt_0 := by decide +kernel
theorem dksX0_debt_1 : cX0_debt.data.toList.drop 24 = dktX0_debt_1 := dk_seg dksX0_debt_0 24 rfl rfl
theorem dksX0_debt_2 : cX0_debt.data.toList.drop 47 = dktX0_debt_2 := dk_seg dksX0_debt_1 23 rfl rfl
theorem dksX0_debt_3 : cX0_debt.data.toList.drop 71 = dktX0_debt_3 := dk_seg dksX0_debt_2 24 rfl rfl
theorem dksX0_debt_4 : cX0_debt.data.toList.drop 93 = dktX0_debt_4 := dk_seg dksX0_debt_3 22 rfl rfl
theorem dksX0_debt_5 : cX0_debt.data.toList.drop 116 = dktX0_debt_5 := dk_seg dksX0_debt_4 23 rfl rfl
theorem dX0_debt_0 : decode cX0_debt 0 = .ok (.aload_n 0, 1) := dk_42 (dk_at dksX0_debt_0 0 rfl rfl)
theorem dX0_debt_1 : decode cX0_debt 1 = .ok (.iload_n 1, 1) := dk_27 (dk_at dksX0_debt_0 1 rfl rfl)
theorem dX0_debt_2 : decode cX0_debt 2 = .ok (.invokevirtual 110, 3) := dk_182 0 110 (dk_at dksX0_debt_0 2 rfl rfl)
theorem dX0_debt_5 : decode cX0_debt 5 = .ok (.ifCond .eq 22, 3) := dk_153 0 22 (dk_at dksX0_debt_0 5 rfl rfl)
theorem dX0_debt_8 : decode cX0_debt 8 = .ok (.aload_n 0, 1) := dk_42 (dk_at dksX0_debt_0 8 rfl rfl)
theorem dX0_debt_9 : decode cX0_debt 9 = .ok (.iload_n 2, 1) := dk_28 (dk_at dksX0_debt_0 9 rfl rfl)
theorem dX0_debt_10 : decode cX0_debt 10 = .ok (.invokevirtual 203, 3) := dk_182 0 203 (dk_at dksX0_debt_0 10 rfl rfl)
theorem dX0_debt_13 : decode cX0_debt 13 = .ok (.ifCond .eq 14, 3) := dk_153 0 14 (dk_at dksX0_debt_0 13 rfl rfl)
theorem dX0_debt_16 : decode cX0_debt 16 = .ok (.iload_n 3, 1) := dk_29 (dk_at dksX0_debt_0 16 rfl rfl)
theorem dX0_debt_17 : decode cX0_debt 17 = .ok (.iconst 1, 1) := dk_4 (dk_at dksX0_debt_0 17 rfl rfl)
theorem dX0_debt_18 : decode cX0_debt 18 = .ok (.sipush 9999, 3) := dk_17 39 15 (dk_at dksX0_debt_0 18 rfl rfl)
theorem dX0_debt_21 : decode cX0_debt 21 = .ok (.invokestatic 78, 3) := dk_184 0 78 (dk_at dksX0_debt_0 21 rfl rfl)
theorem dX0_debt_24 : decode cX0_debt 24 = .ok (.ifCond .ne 5, 3) := dk_154 0 5 (dk_at dksX0_debt_1 0 rfl rfl)
theorem dX0_debt_27 : decode cX0_debt 27 = .ok (.iconst (-1), 1) := dk_2 (dk_at dksX0_debt_1 3 rfl rfl)
theorem dX0_debt_28 : decode cX0_debt 28 = .ok (.ireturn, 1) := dk_172 (dk_at dksX0_debt_1 4 rfl rfl)
theorem dX0_debt_29 : decode cX0_debt 29 = .ok (.aload_n 0, 1) := dk_42 (dk_at dksX0_debt_1 5 rfl rfl)
theorem dX0_debt_30 : decode cX0_debt 30 = .ok (.getfield 32, 3) := dk_180 0 32 (dk_at dksX0_debt_1 6 rfl rfl)
theorem dX0_debt_33 : decode cX0_debt 33 = .ok (.iload_n 1, 1) := dk_27 (dk_at dksX0_debt_1 9 rfl rfl)
theorem dX0_debt_34 : decode cX0_debt 34 = .ok (.invokevirtual 213, 3) := dk_182 0 213 (dk_at dksX0_debt_1 10 rfl rfl)
theorem dX0_debt_37 : decode cX0_debt 37 = .ok (.ifCond .ne 6, 3) := dk_154 0 6 (dk_at dksX0_debt_1 13 rfl rfl)
theorem dX0_debt_40 : decode cX0_debt 40 = .ok (.bipush (-4), 2) := dk_16 252 (dk_at dksX0_debt_1 16 rfl rfl)
theorem dX0_debt_42 : decode cX0_debt 42 = .ok (.ireturn, 1) := dk_172 (dk_at dksX0_debt_1 18 rfl rfl)
theorem dX0_debt_43 : decode cX0_debt 43 = .ok (.aload_n 0, 1) := dk_42 (dk_at dksX0_debt_1 19 rfl rfl)
theorem dX0_debt_44 : decode cX0_debt 44 = .ok (.getfield 32, 3) := dk_180 0 32 (dk_at dksX0_debt_1 20 rfl rfl)
theorem dX0_debt_47 : decode cX0_debt 47 = .ok (.getfield 97, 3) := dk_180 0 97 (dk_at dksX0_debt_2 0 rfl rfl)
theorem dX0_debt_50 : decode cX0_debt 50 = .ok (.invokevirtual 92, 3) := dk_182 0 92 (dk_at dksX0_debt_2 3 rfl rfl)
theorem dX0_debt_53 : decode cX0_debt 53 = .ok (.bipush 20, 2) := dk_16 20 (dk_at dksX0_debt_2 6 rfl rfl)
theorem dX0_debt_55 : decode cX0_debt 55 = .ok (.if_icmp .ne 6, 3) := dk_160 0 6 (dk_at dksX0_debt_2 8 rfl rfl)
theorem dX0_debt_58 : decode cX0_debt 58 = .ok (.bipush (-3), 2) := dk_16 253 (dk_at dksX0_debt_2 11 rfl rfl)
theorem dX0_debt_60 : decode cX0_debt 60 = .ok (.ireturn, 1) := dk_172 (dk_at dksX0_debt_2 13 rfl rfl)
theorem dX0_debt_61 : decode cX0_debt 61 = .ok (.aload_n 0, 1) := dk_42 (dk_at dksX0_debt_2 14 rfl rfl)
theorem dX0_debt_62 : decode cX0_debt 62 = .ok (.getfield 32, 3) := dk_180 0 32 (dk_at dksX0_debt_2 15 rfl rfl)
theorem dX0_debt_65 : decode cX0_debt 65 = .ok (.invokevirtual 86, 3) := dk_182 0 86 (dk_at dksX0_debt_2 18 rfl rfl)
theorem dX0_debt_68 : decode cX0_debt 68 = .ok (.astore 4, 2) := dk_58 4 (dk_at dksX0_debt_2 21 rfl rfl)
theorem dX0_debt_70 : decode cX0_debt 70 = .ok (.aload_n 0, 1) := dk_42 (dk_at dksX0_debt_2 23 rfl rfl)
theorem dX0_debt_71 : decode cX0_debt 71 = .ok (.getfield 32, 3) := dk_180 0 32 (dk_at dksX0_debt_3 0 rfl rfl)
theorem dX0_debt_74 : decode cX0_debt 74 = .ok (.getfield 97, 3) := dk_180 0 97 (dk_at dksX0_debt_3 3 rfl rfl)
theorem dX0_debt_77 : decode cX0_debt 77 = .ok (.invokevirtual 92, 3) := dk_182 0 92 (dk_at dksX0_debt_3 6 rfl rfl)
theorem dX0_debt_80 : decode cX0_debt 80 = .ok (.istore 5, 2) := dk_54 5 (dk_at dksX0_debt_3 9 rfl rfl)
theorem dX0_debt_82 : decode cX0_debt 82 = .ok (.aload_n 0, 1) := dk_42 (dk_at dksX0_debt_3 11 rfl rfl)
theorem dX0_debt_83 : decode cX0_debt 83 = .ok (.getfield 32, 3) := dk_180 0 32 (dk_at dksX0_debt_3 12 rfl rfl)
theorem dX0_debt_86 : decode cX0_debt 86 = .ok (.new 254, 3) := dk_187 0 254 (dk_at dksX0_debt_3 15 rfl rfl)
theorem dX0_debt_89 : decode cX0_debt 89 = .ok (.dup, 1) := dk_89 (dk_at dksX0_debt_3 18 rfl rfl)
theorem dX0_debt_90 : decode cX0_debt 90 = .ok (.iload 5, 2) := dk_21 5 (dk_at dksX0_debt_3 19 rfl rfl)
theorem dX0_debt_92 : decode cX0_debt 92 = .ok (.aload_n 0, 1) := dk_42 (dk_at dksX0_debt_3 21 rfl rfl)
theorem dX0_debt_93 : decode cX0_debt 93 = .ok (.getfield 32, 3) := dk_180 0 32 (dk_at dksX0_debt_4 0 rfl rfl)
theorem dX0_debt_96 : decode cX0_debt 96 = .ok (.getfield 256, 3) := dk_180 1 0 (dk_at dksX0_debt_4 3 rfl rfl)
theorem dX0_debt_99 : decode cX0_debt 99 = .ok (.iload_n 2, 1) := dk_28 (dk_at dksX0_debt_4 6 rfl rfl)
theorem dX0_debt_100 : decode cX0_debt 100 = .ok (.iload_n 3, 1) := dk_29 (dk_at dksX0_debt_4 7 rfl rfl)
theorem dX0_debt_101 : decode cX0_debt 101 = .ok (.invokespecial 259, 3) := dk_183 1 3 (dk_at dksX0_debt_4 8 rfl rfl)
theorem dX0_debt_104 : decode cX0_debt 104 = .ok (.iload_n 1, 1) := dk_27 (dk_at dksX0_debt_4 11 rfl rfl)
theorem dX0_debt_105 : decode cX0_debt 105 = .ok (.invokevirtual 261, 3) := dk_182 1 5 (dk_at dksX0_debt_4 12 rfl rfl)
theorem dX0_debt_108 : decode cX0_debt 108 = .ok (.aload_n 0, 1) := dk_42 (dk_at dksX0_debt_4 15 rfl rfl)
theorem dX0_debt_109 : decode cX0_debt 109 = .ok (.getfield 32, 3) := dk_180 0 32 (dk_at dksX0_debt_4 16 rfl rfl)
theorem dX0_debt_112 : decode cX0_debt 112 = .ok (.iconst 4, 1) := dk_7 (dk_at dksX0_debt_4 19 rfl rfl)
theorem dX0_debt_113 : decode cX0_debt 113 = .ok (.iload 5, 2) := dk_21 5 (dk_at dksX0_debt_4 20 rfl rfl)
theorem dX0_debt_115 : decode cX0_debt 115 = .ok (.iload_n 3, 1) := dk_29 (dk_at dksX0_debt_4 22 rfl rfl)
theorem dX0_debt_116 : decode cX0_debt 116 = .ok (.invokevirtual 200, 3) := dk_182 0 200 (dk_at dksX0_debt_5 0 rfl rfl)
theorem dX0_debt_119 : decode cX0_debt 119 = .ok (.aload_n 0, 1) := dk_42 (dk_at dksX0_debt_5 3 rfl rfl)
theorem dX0_debt_120 : decode cX0_debt 120 = .ok (.aload 4, 2) := dk_25 4 (dk_at dksX0_debt_5 4 rfl rfl)
theorem dX0_debt_122 : decode cX0_debt 122 = .ok (.iload 5, 2) := dk_21 5 (dk_at dksX0_debt_5 6 rfl rfl)
theorem dX0_debt_124 : decode cX0_debt 124 = .ok (.invokevirtual 93, 3) := dk_182 0 93 (dk_at dksX0_debt_5 8 rfl rfl)
theorem dX0_debt_127 : decode cX0_debt 127 = .ok (.ireturn, 1) := dk_172 (dk_at dksX0_debt_5 11 rfl rfl)
abbrev cX0_path : ByteArray := prog_1_method_29_code
def yX0_path : MethodName := ⟨RX0, "path", "(II)I"⟩
def dkwX0_path_5 : List UInt8 := [182, 1, 5, 42, 180, 0, 32, 8, 21, 5, 29, 182, 0, 200, 42, 25, 4, 21, 5, 182, 0, 93, 172]
abbrev dktX0_path_5 : List UInt8 := dkwX0_path_5 ++ []
def dkwX0_path_4 : List UInt8 := [180, 0, 32, 187, 1, 18, 89, 21, 5, 42, 180, 0, 32, 180, 1, 0, 27, 28, 183, 1, 20, 29]
abbrev dktX0_path_4 : List UInt8 := dkwX0_path_4 ++ dktX0_path_5
def dkwX0_path_3 : List UInt8 := [42, 180, 0, 32, 182, 0, 86, 58, 4, 42, 180, 0, 32, 180, 0, 97, 182, 0, 92, 54, 5, 42]
abbrev dktX0_path_3 : List UInt8 := dkwX0_path_3 ++ dktX0_path_4
def dkwX0_path_2 : List UInt8 := [153, 0, 6, 16, 254, 172, 42, 180, 0, 32, 180, 0, 97, 182, 0, 92, 16, 20, 160, 0, 6, 16, 253, 172]
abbrev dktX0_path_2 : List UInt8 := dkwX0_path_2 ++ dktX0_path_3
def dkwX0_path_1 : List UInt8 := [180, 0, 32, 29, 182, 0, 213, 154, 0, 6, 16, 252, 172, 42, 180, 0, 32, 29, 27, 28, 182, 1, 15]
abbrev dktX0_path_1 : List UInt8 := dkwX0_path_1 ++ dktX0_path_2
def dkwX0_path_0 : List UInt8 := [42, 27, 28, 182, 1, 8, 154, 0, 5, 2, 172, 42, 180, 0, 32, 27, 28, 182, 1, 12, 62, 42]
abbrev dktX0_path_0 : List UInt8 := dkwX0_path_0 ++ dktX0_path_1
theorem dksX0_path_0 : cX0_path.data.toList.drop 0 = dktX0_path_0 := by decide +kernel
theorem dksX0_path_1 : cX0_path.data.toList.drop 22 = dktX0_path_1 := dk_seg dksX0_path_0 22 rfl rfl
theorem dksX0_path_2 : cX0_path.data.toList.drop 45 = dktX0_path_2 := dk_seg dksX0_path_1 23 rfl rfl
theorem dksX0_path_3 : cX0_path.data.toList.drop 69 = dktX0_path_3 := dk_seg dksX0_path_2 24 rfl rfl
theorem dksX0_path_4 : cX0_path.data.toList.drop 91 = dktX0_path_4 := dk_seg dksX0_path_3 22 rfl rfl
theorem dksX0_path_5 : cX0_path.data.toList.drop 113 = dktX0_path_5 := dk_seg dksX0_path_4 22 rfl rfl
theorem dX0_path_0 : decode cX0_path 0 = .ok (.aload_n 0, 1) := dk_42 (dk_at dksX0_path_0 0 rfl rfl)
theorem dX0_path_1 : decode cX0_path 1 = .ok (.iload_n 1, 1) := dk_27 (dk_at dksX0_path_0 1 rfl rfl)
theorem dX0_path_2 : decode cX0_path 2 = .ok (.iload_n 2, 1) := dk_28 (dk_at dksX0_path_0 2 rfl rfl)
theorem dX0_path_3 : decode cX0_path 3 = .ok (.invokevirtual 264, 3) := dk_182 1 8 (dk_at dksX0_path_0 3 rfl rfl)
theorem dX0_path_6 : decode cX0_path 6 = .ok (.ifCond .ne 5, 3) := dk_154 0 5 (dk_at dksX0_path_0 6 rfl rfl)
theorem dX0_path_9 : decode cX0_path 9 = .ok (.iconst (-1), 1) := dk_2 (dk_at dksX0_path_0 9 rfl rfl)
theorem dX0_path_10 : decode cX0_path 10 = .ok (.ireturn, 1) := dk_172 (dk_at dksX0_path_0 10 rfl rfl)
theorem dX0_path_11 : decode cX0_path 11 = .ok (.aload_n 0, 1) := dk_42 (dk_at dksX0_path_0 11 rfl rfl)
theorem dX0_path_12 : decode cX0_path 12 = .ok (.getfield 32, 3) := dk_180 0 32 (dk_at dksX0_path_0 12 rfl rfl)
theorem dX0_path_15 : decode cX0_path 15 = .ok (.iload_n 1, 1) := dk_27 (dk_at dksX0_path_0 15 rfl rfl)
theorem dX0_path_16 : decode cX0_path 16 = .ok (.iload_n 2, 1) := dk_28 (dk_at dksX0_path_0 16 rfl rfl)
theorem dX0_path_17 : decode cX0_path 17 = .ok (.invokevirtual 268, 3) := dk_182 1 12 (dk_at dksX0_path_0 17 rfl rfl)
theorem dX0_path_20 : decode cX0_path 20 = .ok (.istore_n 3, 1) := dk_62 (dk_at dksX0_path_0 20 rfl rfl)
theorem dX0_path_21 : decode cX0_path 21 = .ok (.aload_n 0, 1) := dk_42 (dk_at dksX0_path_0 21 rfl rfl)
theorem dX0_path_22 : decode cX0_path 22 = .ok (.getfield 32, 3) := dk_180 0 32 (dk_at dksX0_path_1 0 rfl rfl)
theorem dX0_path_25 : decode cX0_path 25 = .ok (.iload_n 3, 1) := dk_29 (dk_at dksX0_path_1 3 rfl rfl)
theorem dX0_path_26 : decode cX0_path 26 = .ok (.invokevirtual 213, 3) := dk_182 0 213 (dk_at dksX0_path_1 4 rfl rfl)
theorem dX0_path_29 : decode cX0_path 29 = .ok (.ifCond .ne 6, 3) := dk_154 0 6 (dk_at dksX0_path_1 7 rfl rfl)
theorem dX0_path_32 : decode cX0_path 32 = .ok (.bipush (-4), 2) := dk_16 252 (dk_at dksX0_path_1 10 rfl rfl)
theorem dX0_path_34 : decode cX0_path 34 = .ok (.ireturn, 1) := dk_172 (dk_at dksX0_path_1 12 rfl rfl)
theorem dX0_path_35 : decode cX0_path 35 = .ok (.aload_n 0, 1) := dk_42 (dk_at dksX0_path_1 13 rfl rfl)
theorem dX0_path_36 : decode cX0_path 36 = .ok (.getfield 32, 3) := dk_180 0 32 (dk_at dksX0_path_1 14 rfl rfl)
theorem dX0_path_39 : decode cX0_path 39 = .ok (.iload_n 3, 1) := dk_29 (dk_at dksX0_path_1 17 rfl rfl)
theorem dX0_path_40 : decode cX0_path 40 = .ok (.iload_n 1, 1) := dk_27 (dk_at dksX0_path_1 18 rfl rfl)
theorem dX0_path_41 : decode cX0_path 41 = .ok (.iload_n 2, 1) := dk_28 (dk_at dksX0_path_1 19 rfl rfl)
theorem dX0_path_42 : decode cX0_path 42 = .ok (.invokevirtual 271, 3) := dk_182 1 15 (dk_at dksX0_path_1 20 rfl rfl)
theorem dX0_path_45 : decode cX0_path 45 = .ok (.ifCond .eq 6, 3) := dk_153 0 6 (dk_at dksX0_path_2 0 rfl rfl)
theorem dX0_path_48 : decode cX0_path 48 = .ok (.bipush (-2), 2) := dk_16 254 (dk_at dksX0_path_2 3 rfl rfl)
theorem dX0_path_50 : decode cX0_path 50 = .ok (.ireturn, 1) := dk_172 (dk_at dksX0_path_2 5 rfl rfl)
theorem dX0_path_51 : decode cX0_path 51 = .ok (.aload_n 0, 1) := dk_42 (dk_at dksX0_path_2 6 rfl rfl)
theorem dX0_path_52 : decode cX0_path 52 = .ok (.getfield 32, 3) := dk_180 0 32 (dk_at dksX0_path_2 7 rfl rfl)
theorem dX0_path_55 : decode cX0_path 55 = .ok (.getfield 97, 3) := dk_180 0 97 (dk_at dksX0_path_2 10 rfl rfl)
theorem dX0_path_58 : decode cX0_path 58 = .ok (.invokevirtual 92, 3) := dk_182 0 92 (dk_at dksX0_path_2 13 rfl rfl)
theorem dX0_path_61 : decode cX0_path 61 = .ok (.bipush 20, 2) := dk_16 20 (dk_at dksX0_path_2 16 rfl rfl)
theorem dX0_path_63 : decode cX0_path 63 = .ok (.if_icmp .ne 6, 3) := dk_160 0 6 (dk_at dksX0_path_2 18 rfl rfl)
theorem dX0_path_66 : decode cX0_path 66 = .ok (.bipush (-3), 2) := dk_16 253 (dk_at dksX0_path_2 21 rfl rfl)
theorem dX0_path_68 : decode cX0_path 68 = .ok (.ireturn, 1) := dk_172 (dk_at dksX0_path_2 23 rfl rfl)
theorem dX0_path_69 : decode cX0_path 69 = .ok (.aload_n 0, 1) := dk_42 (dk_at dksX0_path_3 0 rfl rfl)
theorem dX0_path_70 : decode cX0_path 70 = .ok (.getfield 32, 3) := dk_180 0 32 (dk_at dksX0_path_3 1 rfl rfl)
theorem dX0_path_73 : decode cX0_path 73 = .ok (.invokevirtual 86, 3) := dk_182 0 86 (dk_at dksX0_path_3 4 rfl rfl)
theorem dX0_path_76 : decode cX0_path 76 = .ok (.astore 4, 2) := dk_58 4 (dk_at dksX0_path_3 7 rfl rfl)
theorem dX0_path_78 : decode cX0_path 78 = .ok (.aload_n 0, 1) := dk_42 (dk_at dksX0_path_3 9 rfl rfl)
theorem dX0_path_79 : decode cX0_path 79 = .ok (.getfield 32, 3) := dk_180 0 32 (dk_at dksX0_path_3 10 rfl rfl)
theorem dX0_path_82 : decode cX0_path 82 = .ok (.getfield 97, 3) := dk_180 0 97 (dk_at dksX0_path_3 13 rfl rfl)
theorem dX0_path_85 : decode cX0_path 85 = .ok (.invokevirtual 92, 3) := dk_182 0 92 (dk_at dksX0_path_3 16 rfl rfl)
theorem dX0_path_88 : decode cX0_path 88 = .ok (.istore 5, 2) := dk_54 5 (dk_at dksX0_path_3 19 rfl rfl)
theorem dX0_path_90 : decode cX0_path 90 = .ok (.aload_n 0, 1) := dk_42 (dk_at dksX0_path_3 21 rfl rfl)
theorem dX0_path_91 : decode cX0_path 91 = .ok (.getfield 32, 3) := dk_180 0 32 (dk_at dksX0_path_4 0 rfl rfl)
theorem dX0_path_94 : decode cX0_path 94 = .ok (.new 274, 3) := dk_187 1 18 (dk_at dksX0_path_4 3 rfl rfl)
theorem dX0_path_97 : decode cX0_path 97 = .ok (.dup, 1) := dk_89 (dk_at dksX0_path_4 6 rfl rfl)
theorem dX0_path_98 : decode cX0_path 98 = .ok (.iload 5, 2) := dk_21 5 (dk_at dksX0_path_4 7 rfl rfl)
theorem dX0_path_100 : decode cX0_path 100 = .ok (.aload_n 0, 1) := dk_42 (dk_at dksX0_path_4 9 rfl rfl)
theorem dX0_path_101 : decode cX0_path 101 = .ok (.getfield 32, 3) := dk_180 0 32 (dk_at dksX0_path_4 10 rfl rfl)
theorem dX0_path_104 : decode cX0_path 104 = .ok (.getfield 256, 3) := dk_180 1 0 (dk_at dksX0_path_4 13 rfl rfl)
theorem dX0_path_107 : decode cX0_path 107 = .ok (.iload_n 1, 1) := dk_27 (dk_at dksX0_path_4 16 rfl rfl)
theorem dX0_path_108 : decode cX0_path 108 = .ok (.iload_n 2, 1) := dk_28 (dk_at dksX0_path_4 17 rfl rfl)
theorem dX0_path_109 : decode cX0_path 109 = .ok (.invokespecial 276, 3) := dk_183 1 20 (dk_at dksX0_path_4 18 rfl rfl)
theorem dX0_path_112 : decode cX0_path 112 = .ok (.iload_n 3, 1) := dk_29 (dk_at dksX0_path_4 21 rfl rfl)
theorem dX0_path_113 : decode cX0_path 113 = .ok (.invokevirtual 261, 3) := dk_182 1 5 (dk_at dksX0_path_5 0 rfl rfl)
theorem dX0_path_116 : decode cX0_path 116 = .ok (.aload_n 0, 1) := dk_42 (dk_at dksX0_path_5 3 rfl rfl)
theorem dX0_path_117 : decode cX0_path 117 = .ok (.getfield 32, 3) := dk_180 0 32 (dk_at dksX0_path_5 4 rfl rfl)
theorem dX0_path_120 : decode cX0_path 120 = .ok (.iconst 5, 1) := dk_8 (dk_at dksX0_path_5 7 rfl rfl)
theorem dX0_path_121 : decode cX0_path 121 = .ok (.iload 5, 2) := dk_21 5 (dk_at dksX0_path_5 8 rfl rfl)
theorem dX0_path_123 : decode cX0_path 123 = .ok (.iload_n 3, 1) := dk_29 (dk_at dksX0_path_5 10 rfl rfl)
theorem dX0_path_124 : decode cX0_path 124 = .ok (.invokevirtual 200, 3) := dk_182 0 200 (dk_at dksX0_path_5 11 rfl rfl)
theorem dX0_path_127 : decode cX0_path 127 = .ok (.aload_n 0, 1) := dk_42 (dk_at dksX0_path_5 14 rfl rfl)
theorem dX0_path_128 : decode cX0_path 128 = .ok (.aload 4, 2) := dk_25 4 (dk_at dksX0_path_5 15 rfl rfl)
theorem dX0_path_130 : decode cX0_path 130 = .ok (.iload 5, 2) := dk_21 5 (dk_at dksX0_path_5 17 rfl rfl)
theorem dX0_path_132 : decode cX0_path 132 = .ok (.invokevirtual 93, 3) := dk_182 0 93 (dk_at dksX0_path_5 19 rfl rfl)
theorem dX0_path_135 : decode cX0_path 135 = .ok (.ireturn, 1) := dk_172 (dk_at dksX0_path_5 22 rfl rfl)
abbrev cX0_isSquare : ByteArray := prog_1_method_12_code
def yX0_isSquare : MethodName := ⟨RX0, "isSquare", "(II)Z"⟩
def dkwX0_isSquare_1 : List UInt8 := [180, 0, 103, 4, 100, 184, 0, 78, 153, 0, 7, 4, 167, 0, 4, 3, 172]
abbrev dktX0_isSquare_1 : List UInt8 := dkwX0_isSquare_1 ++ []
def dkwX0_isSquare_0 : List UInt8 := [27, 3, 42, 180, 0, 32, 180, 0, 100, 4, 100, 184, 0, 78, 153, 0, 24, 28, 3, 42, 180, 0, 32]
abbrev dktX0_isSquare_0 : List UInt8 := dkwX0_isSquare_0 ++ dktX0_isSquare_1
theorem dksX0_isSquare_0 : cX0_isSquare.data.toList.drop 0 = dktX0_isSquare_0 := by decide +kernel
theorem dksX0_isSquare_1 : cX0_isSquare.data.toList.drop 23 = dktX0_isSquare_1 := dk_seg dksX0_isSquare_0 23 rfl rfl
theorem dX0_isSquare_0 : decode cX0_isSquare 0 = .ok (.iload_n 1, 1) := dk_27 (dk_at dksX0_isSquare_0 0 rfl rfl)
theorem dX0_isSquare_1 : decode cX0_isSquare 1 = .ok (.iconst 0, 1) := dk_3 (dk_at dksX0_isSquare_0 1 rfl rfl)
theorem dX0_isSquare_2 : decode cX0_isSquare 2 = .ok (.aload_n 0, 1) := dk_42 (dk_at dksX0_isSquare_0 2 rfl rfl)
theorem dX0_isSquare_3 : decode cX0_isSquare 3 = .ok (.getfield 32, 3) := dk_180 0 32 (dk_at dksX0_isSquare_0 3 rfl rfl)
theorem dX0_isSquare_6 : decode cX0_isSquare 6 = .ok (.getfield 100, 3) := dk_180 0 100 (dk_at dksX0_isSquare_0 6 rfl rfl)
theorem dX0_isSquare_9 : decode cX0_isSquare 9 = .ok (.iconst 1, 1) := dk_4 (dk_at dksX0_isSquare_0 9 rfl rfl)
theorem dX0_isSquare_10 : decode cX0_isSquare 10 = .ok (.isub, 1) := dk_100 (dk_at dksX0_isSquare_0 10 rfl rfl)
theorem dX0_isSquare_11 : decode cX0_isSquare 11 = .ok (.invokestatic 78, 3) := dk_184 0 78 (dk_at dksX0_isSquare_0 11 rfl rfl)
theorem dX0_isSquare_14 : decode cX0_isSquare 14 = .ok (.ifCond .eq 24, 3) := dk_153 0 24 (dk_at dksX0_isSquare_0 14 rfl rfl)
theorem dX0_isSquare_17 : decode cX0_isSquare 17 = .ok (.iload_n 2, 1) := dk_28 (dk_at dksX0_isSquare_0 17 rfl rfl)
theorem dX0_isSquare_18 : decode cX0_isSquare 18 = .ok (.iconst 0, 1) := dk_3 (dk_at dksX0_isSquare_0 18 rfl rfl)
theorem dX0_isSquare_19 : decode cX0_isSquare 19 = .ok (.aload_n 0, 1) := dk_42 (dk_at dksX0_isSquare_0 19 rfl rfl)
theorem dX0_isSquare_20 : decode cX0_isSquare 20 = .ok (.getfield 32, 3) := dk_180 0 32 (dk_at dksX0_isSquare_0 20 rfl rfl)
theorem dX0_isSquare_23 : decode cX0_isSquare 23 = .ok (.getfield 103, 3) := dk_180 0 103 (dk_at dksX0_isSquare_1 0 rfl rfl)
theorem dX0_isSquare_26 : decode cX0_isSquare 26 = .ok (.iconst 1, 1) := dk_4 (dk_at dksX0_isSquare_1 3 rfl rfl)
theorem dX0_isSquare_27 : decode cX0_isSquare 27 = .ok (.isub, 1) := dk_100 (dk_at dksX0_isSquare_1 4 rfl rfl)
theorem dX0_isSquare_28 : decode cX0_isSquare 28 = .ok (.invokestatic 78, 3) := dk_184 0 78 (dk_at dksX0_isSquare_1 5 rfl rfl)
theorem dX0_isSquare_31 : decode cX0_isSquare 31 = .ok (.ifCond .eq 7, 3) := dk_153 0 7 (dk_at dksX0_isSquare_1 8 rfl rfl)
theorem dX0_isSquare_34 : decode cX0_isSquare 34 = .ok (.iconst 1, 1) := dk_4 (dk_at dksX0_isSquare_1 11 rfl rfl)
theorem dX0_isSquare_35 : decode cX0_isSquare 35 = .ok (.goto 4, 3) := dk_167 0 4 (dk_at dksX0_isSquare_1 12 rfl rfl)
theorem dX0_isSquare_38 : decode cX0_isSquare 38 = .ok (.iconst 0, 1) := dk_3 (dk_at dksX0_isSquare_1 15 rfl rfl)
theorem dX0_isSquare_39 : decode cX0_isSquare 39 = .ok (.ireturn, 1) := dk_172 (dk_at dksX0_isSquare_1 16 rfl rfl)
abbrev cX0_pay : ByteArray := prog_1_method_30_code
def yX0_pay : MethodName := ⟨RX0, "pay", "(II)I"⟩
def dkwX0_pay_5 : List UInt8 := [182, 0, 93, 172]
abbrev dktX0_pay_5 : List UInt8 := dkwX0_pay_5 ++ []
def dkwX0_pay_4 : List UInt8 := [182, 1, 39, 42, 180, 0, 32, 16, 6, 27, 45, 180, 1, 31, 182, 0, 200, 42, 25, 4, 45, 180, 1, 31]
abbrev dktX0_pay_4 : List UInt8 := dkwX0_pay_4 ++ dktX0_pay_5
def dkwX0_pay_3 : List UInt8 := [58, 4, 45, 89, 180, 1, 31, 28, 100, 181, 1, 31, 45, 180, 1, 31, 154, 0, 10, 45, 180, 1, 34]
abbrev dktX0_pay_3 : List UInt8 := dkwX0_pay_3 ++ dktX0_pay_4
def dkwX0_pay_2 : List UInt8 := [182, 1, 28, 154, 0, 11, 45, 180, 1, 31, 28, 162, 0, 6, 16, 252, 172, 42, 180, 0, 32, 182, 0, 86]
abbrev dktX0_pay_2 : List UInt8 := dkwX0_pay_2 ++ dktX0_pay_3
def dkwX0_pay_1 : List UInt8 := [180, 0, 32, 27, 182, 1, 24, 58, 4, 25, 4, 193, 0, 254, 153, 0, 24, 25, 4, 192, 0, 254, 78, 45]
abbrev dktX0_pay_1 : List UInt8 := dkwX0_pay_1 ++ dktX0_pay_2
def dkwX0_pay_0 : List UInt8 := [42, 27, 182, 1, 21, 153, 0, 14, 28, 4, 17, 39, 15, 184, 0, 78, 154, 0, 5, 2, 172, 42]
abbrev dktX0_pay_0 : List UInt8 := dkwX0_pay_0 ++ dktX0_pay_1
theorem dksX0_pay_0 : cX0_pay.data.toList.drop 0 = dktX0_pay_0 := by decide +kernel
theorem dksX0_pay_1 : cX0_pay.data.toList.drop 22 = dktX0_pay_1 := dk_seg dksX0_pay_0 22 rfl rfl
theorem dksX0_pay_2 : cX0_pay.data.toList.drop 46 = dktX0_pay_2 := dk_seg dksX0_pay_1 24 rfl rfl
theorem dksX0_pay_3 : cX0_pay.data.toList.drop 70 = dktX0_pay_3 := dk_seg dksX0_pay_2 24 rfl rfl
theorem dksX0_pay_4 : cX0_pay.data.toList.drop 93 = dktX0_pay_4 := dk_seg dksX0_pay_3 23 rfl rfl
theorem dksX0_pay_5 : cX0_pay.data.toList.drop 117 = dktX0_pay_5 := dk_seg dksX0_pay_4 24 rfl rfl
theorem dX0_pay_0 : decode cX0_pay 0 = .ok (.aload_n 0, 1) := dk_42 (dk_at dksX0_pay_0 0 rfl rfl)
theorem dX0_pay_1 : decode cX0_pay 1 = .ok (.iload_n 1, 1) := dk_27 (dk_at dksX0_pay_0 1 rfl rfl)
theorem dX0_pay_2 : decode cX0_pay 2 = .ok (.invokevirtual 277, 3) := dk_182 1 21 (dk_at dksX0_pay_0 2 rfl rfl)
theorem dX0_pay_5 : decode cX0_pay 5 = .ok (.ifCond .eq 14, 3) := dk_153 0 14 (dk_at dksX0_pay_0 5 rfl rfl)
theorem dX0_pay_8 : decode cX0_pay 8 = .ok (.iload_n 2, 1) := dk_28 (dk_at dksX0_pay_0 8 rfl rfl)
theorem dX0_pay_9 : decode cX0_pay 9 = .ok (.iconst 1, 1) := dk_4 (dk_at dksX0_pay_0 9 rfl rfl)
theorem dX0_pay_10 : decode cX0_pay 10 = .ok (.sipush 9999, 3) := dk_17 39 15 (dk_at dksX0_pay_0 10 rfl rfl)
theorem dX0_pay_13 : decode cX0_pay 13 = .ok (.invokestatic 78, 3) := dk_184 0 78 (dk_at dksX0_pay_0 13 rfl rfl)
theorem dX0_pay_16 : decode cX0_pay 16 = .ok (.ifCond .ne 5, 3) := dk_154 0 5 (dk_at dksX0_pay_0 16 rfl rfl)
theorem dX0_pay_19 : decode cX0_pay 19 = .ok (.iconst (-1), 1) := dk_2 (dk_at dksX0_pay_0 19 rfl rfl)
theorem dX0_pay_20 : decode cX0_pay 20 = .ok (.ireturn, 1) := dk_172 (dk_at dksX0_pay_0 20 rfl rfl)
theorem dX0_pay_21 : decode cX0_pay 21 = .ok (.aload_n 0, 1) := dk_42 (dk_at dksX0_pay_0 21 rfl rfl)
theorem dX0_pay_22 : decode cX0_pay 22 = .ok (.getfield 32, 3) := dk_180 0 32 (dk_at dksX0_pay_1 0 rfl rfl)
theorem dX0_pay_25 : decode cX0_pay 25 = .ok (.iload_n 1, 1) := dk_27 (dk_at dksX0_pay_1 3 rfl rfl)
theorem dX0_pay_26 : decode cX0_pay 26 = .ok (.invokevirtual 280, 3) := dk_182 1 24 (dk_at dksX0_pay_1 4 rfl rfl)
theorem dX0_pay_29 : decode cX0_pay 29 = .ok (.astore 4, 2) := dk_58 4 (dk_at dksX0_pay_1 7 rfl rfl)
theorem dX0_pay_31 : decode cX0_pay 31 = .ok (.aload 4, 2) := dk_25 4 (dk_at dksX0_pay_1 9 rfl rfl)
theorem dX0_pay_33 : decode cX0_pay 33 = .ok (.instanceof 254, 3) := dk_193 0 254 (dk_at dksX0_pay_1 11 rfl rfl)
theorem dX0_pay_36 : decode cX0_pay 36 = .ok (.ifCond .eq 24, 3) := dk_153 0 24 (dk_at dksX0_pay_1 14 rfl rfl)
theorem dX0_pay_39 : decode cX0_pay 39 = .ok (.aload 4, 2) := dk_25 4 (dk_at dksX0_pay_1 17 rfl rfl)
theorem dX0_pay_41 : decode cX0_pay 41 = .ok (.checkcast 254, 3) := dk_192 0 254 (dk_at dksX0_pay_1 19 rfl rfl)
theorem dX0_pay_44 : decode cX0_pay 44 = .ok (.astore_n 3, 1) := dk_78 (dk_at dksX0_pay_1 22 rfl rfl)
theorem dX0_pay_45 : decode cX0_pay 45 = .ok (.aload_n 3, 1) := dk_45 (dk_at dksX0_pay_1 23 rfl rfl)
theorem dX0_pay_46 : decode cX0_pay 46 = .ok (.invokevirtual 284, 3) := dk_182 1 28 (dk_at dksX0_pay_2 0 rfl rfl)
theorem dX0_pay_49 : decode cX0_pay 49 = .ok (.ifCond .ne 11, 3) := dk_154 0 11 (dk_at dksX0_pay_2 3 rfl rfl)
theorem dX0_pay_52 : decode cX0_pay 52 = .ok (.aload_n 3, 1) := dk_45 (dk_at dksX0_pay_2 6 rfl rfl)
theorem dX0_pay_53 : decode cX0_pay 53 = .ok (.getfield 287, 3) := dk_180 1 31 (dk_at dksX0_pay_2 7 rfl rfl)
theorem dX0_pay_56 : decode cX0_pay 56 = .ok (.iload_n 2, 1) := dk_28 (dk_at dksX0_pay_2 10 rfl rfl)
theorem dX0_pay_57 : decode cX0_pay 57 = .ok (.if_icmp .ge 6, 3) := dk_162 0 6 (dk_at dksX0_pay_2 11 rfl rfl)
theorem dX0_pay_60 : decode cX0_pay 60 = .ok (.bipush (-4), 2) := dk_16 252 (dk_at dksX0_pay_2 14 rfl rfl)
theorem dX0_pay_62 : decode cX0_pay 62 = .ok (.ireturn, 1) := dk_172 (dk_at dksX0_pay_2 16 rfl rfl)
theorem dX0_pay_63 : decode cX0_pay 63 = .ok (.aload_n 0, 1) := dk_42 (dk_at dksX0_pay_2 17 rfl rfl)
theorem dX0_pay_64 : decode cX0_pay 64 = .ok (.getfield 32, 3) := dk_180 0 32 (dk_at dksX0_pay_2 18 rfl rfl)
theorem dX0_pay_67 : decode cX0_pay 67 = .ok (.invokevirtual 86, 3) := dk_182 0 86 (dk_at dksX0_pay_2 21 rfl rfl)
theorem dX0_pay_70 : decode cX0_pay 70 = .ok (.astore 4, 2) := dk_58 4 (dk_at dksX0_pay_3 0 rfl rfl)
theorem dX0_pay_72 : decode cX0_pay 72 = .ok (.aload_n 3, 1) := dk_45 (dk_at dksX0_pay_3 2 rfl rfl)
theorem dX0_pay_73 : decode cX0_pay 73 = .ok (.dup, 1) := dk_89 (dk_at dksX0_pay_3 3 rfl rfl)
theorem dX0_pay_74 : decode cX0_pay 74 = .ok (.getfield 287, 3) := dk_180 1 31 (dk_at dksX0_pay_3 4 rfl rfl)
theorem dX0_pay_77 : decode cX0_pay 77 = .ok (.iload_n 2, 1) := dk_28 (dk_at dksX0_pay_3 7 rfl rfl)
theorem dX0_pay_78 : decode cX0_pay 78 = .ok (.isub, 1) := dk_100 (dk_at dksX0_pay_3 8 rfl rfl)
theorem dX0_pay_79 : decode cX0_pay 79 = .ok (.putfield 287, 3) := dk_181 1 31 (dk_at dksX0_pay_3 9 rfl rfl)
theorem dX0_pay_82 : decode cX0_pay 82 = .ok (.aload_n 3, 1) := dk_45 (dk_at dksX0_pay_3 12 rfl rfl)
theorem dX0_pay_83 : decode cX0_pay 83 = .ok (.getfield 287, 3) := dk_180 1 31 (dk_at dksX0_pay_3 13 rfl rfl)
theorem dX0_pay_86 : decode cX0_pay 86 = .ok (.ifCond .ne 10, 3) := dk_154 0 10 (dk_at dksX0_pay_3 16 rfl rfl)
theorem dX0_pay_89 : decode cX0_pay 89 = .ok (.aload_n 3, 1) := dk_45 (dk_at dksX0_pay_3 19 rfl rfl)
theorem dX0_pay_90 : decode cX0_pay 90 = .ok (.getfield 290, 3) := dk_180 1 34 (dk_at dksX0_pay_3 20 rfl rfl)
theorem dX0_pay_93 : decode cX0_pay 93 = .ok (.invokevirtual 295, 3) := dk_182 1 39 (dk_at dksX0_pay_4 0 rfl rfl)
theorem dX0_pay_96 : decode cX0_pay 96 = .ok (.aload_n 0, 1) := dk_42 (dk_at dksX0_pay_4 3 rfl rfl)
theorem dX0_pay_97 : decode cX0_pay 97 = .ok (.getfield 32, 3) := dk_180 0 32 (dk_at dksX0_pay_4 4 rfl rfl)
theorem dX0_pay_100 : decode cX0_pay 100 = .ok (.bipush 6, 2) := dk_16 6 (dk_at dksX0_pay_4 7 rfl rfl)
theorem dX0_pay_102 : decode cX0_pay 102 = .ok (.iload_n 1, 1) := dk_27 (dk_at dksX0_pay_4 9 rfl rfl)
theorem dX0_pay_103 : decode cX0_pay 103 = .ok (.aload_n 3, 1) := dk_45 (dk_at dksX0_pay_4 10 rfl rfl)
theorem dX0_pay_104 : decode cX0_pay 104 = .ok (.getfield 287, 3) := dk_180 1 31 (dk_at dksX0_pay_4 11 rfl rfl)
theorem dX0_pay_107 : decode cX0_pay 107 = .ok (.invokevirtual 200, 3) := dk_182 0 200 (dk_at dksX0_pay_4 14 rfl rfl)
theorem dX0_pay_110 : decode cX0_pay 110 = .ok (.aload_n 0, 1) := dk_42 (dk_at dksX0_pay_4 17 rfl rfl)
theorem dX0_pay_111 : decode cX0_pay 111 = .ok (.aload 4, 2) := dk_25 4 (dk_at dksX0_pay_4 18 rfl rfl)
theorem dX0_pay_113 : decode cX0_pay 113 = .ok (.aload_n 3, 1) := dk_45 (dk_at dksX0_pay_4 20 rfl rfl)
theorem dX0_pay_114 : decode cX0_pay 114 = .ok (.getfield 287, 3) := dk_180 1 31 (dk_at dksX0_pay_4 21 rfl rfl)
theorem dX0_pay_117 : decode cX0_pay 117 = .ok (.invokevirtual 93, 3) := dk_182 0 93 (dk_at dksX0_pay_5 0 rfl rfl)
theorem dX0_pay_120 : decode cX0_pay 120 = .ok (.ireturn, 1) := dk_172 (dk_at dksX0_pay_5 3 rfl rfl)
abbrev cX0_isBurden : ByteArray := prog_1_method_11_code
def yX0_isBurden : MethodName := ⟨RX0, "isBurden", "(I)Z"⟩
def dkwX0_isBurden_0 : List UInt8 := [27, 3, 42, 180, 0, 32, 180, 0, 97, 182, 0, 92, 4, 100, 184, 0, 78, 172]
abbrev dktX0_isBurden_0 : List UInt8 := dkwX0_isBurden_0 ++ []
theorem dksX0_isBurden_0 : cX0_isBurden.data.toList.drop 0 = dktX0_isBurden_0 := by decide +kernel
theorem dX0_isBurden_0 : decode cX0_isBurden 0 = .ok (.iload_n 1, 1) := dk_27 (dk_at dksX0_isBurden_0 0 rfl rfl)
theorem dX0_isBurden_1 : decode cX0_isBurden 1 = .ok (.iconst 0, 1) := dk_3 (dk_at dksX0_isBurden_0 1 rfl rfl)
theorem dX0_isBurden_2 : decode cX0_isBurden 2 = .ok (.aload_n 0, 1) := dk_42 (dk_at dksX0_isBurden_0 2 rfl rfl)
theorem dX0_isBurden_3 : decode cX0_isBurden 3 = .ok (.getfield 32, 3) := dk_180 0 32 (dk_at dksX0_isBurden_0 3 rfl rfl)
theorem dX0_isBurden_6 : decode cX0_isBurden 6 = .ok (.getfield 97, 3) := dk_180 0 97 (dk_at dksX0_isBurden_0 6 rfl rfl)
theorem dX0_isBurden_9 : decode cX0_isBurden 9 = .ok (.invokevirtual 92, 3) := dk_182 0 92 (dk_at dksX0_isBurden_0 9 rfl rfl)
theorem dX0_isBurden_12 : decode cX0_isBurden 12 = .ok (.iconst 1, 1) := dk_4 (dk_at dksX0_isBurden_0 12 rfl rfl)
theorem dX0_isBurden_13 : decode cX0_isBurden 13 = .ok (.isub, 1) := dk_100 (dk_at dksX0_isBurden_0 13 rfl rfl)
theorem dX0_isBurden_14 : decode cX0_isBurden 14 = .ok (.invokestatic 78, 3) := dk_184 0 78 (dk_at dksX0_isBurden_0 14 rfl rfl)
theorem dX0_isBurden_17 : decode cX0_isBurden 17 = .ok (.ireturn, 1) := dk_172 (dk_at dksX0_isBurden_0 17 rfl rfl)
abbrev cX0_free : ByteArray := prog_1_method_31_code
def yX0_free : MethodName := ⟨RX0, "free", "(II)I"⟩
def dkwX0_free_5 : List UInt8 := [182, 0, 200, 42, 25, 4, 45, 180, 1, 34, 182, 1, 45, 182, 0, 93, 172]
abbrev dktX0_free_5 : List UInt8 := dkwX0_free_5 ++ []
def dkwX0_free_4 : List UInt8 := [180, 0, 32, 182, 0, 86, 58, 4, 45, 180, 1, 34, 28, 182, 1, 52, 42, 180, 0, 32, 16, 7, 27, 28]
abbrev dktX0_free_4 : List UInt8 := dkwX0_free_4 ++ dktX0_free_5
def dkwX0_free_3 : List UInt8 := [58, 4, 42, 180, 0, 32, 25, 4, 28, 182, 1, 48, 25, 4, 180, 1, 31, 162, 0, 6, 16, 251, 172, 42]
abbrev dktX0_free_3 : List UInt8 := dkwX0_free_3 ++ dktX0_free_4
def dkwX0_free_2 : List UInt8 := [180, 1, 34, 182, 1, 45, 4, 160, 0, 6, 16, 252, 172, 45, 193, 0, 254, 153, 0, 30, 45, 192, 0, 254]
abbrev dktX0_free_2 : List UInt8 := dkwX0_free_2 ++ dktX0_free_3
def dkwX0_free_1 : List UInt8 := [182, 1, 24, 78, 45, 28, 182, 1, 42, 154, 0, 6, 16, 254, 172, 45, 193, 0, 254, 153, 0, 17, 45]
abbrev dktX0_free_1 : List UInt8 := dkwX0_free_1 ++ dktX0_free_2
def dkwX0_free_0 : List UInt8 := [42, 27, 182, 1, 21, 153, 0, 11, 42, 28, 182, 0, 110, 154, 0, 5, 2, 172, 42, 180, 0, 32, 27]
abbrev dktX0_free_0 : List UInt8 := dkwX0_free_0 ++ dktX0_free_1
theorem dksX0_free_0 : cX0_free.data.toList.drop 0 = dktX0_free_0 := by decide +kernel
theorem dksX0_free_1 : cX0_free.data.toList.drop 23 = dktX0_free_1 := dk_seg dksX0_free_0 23 rfl rfl
theorem dksX0_free_2 : cX0_free.data.toList.drop 46 = dktX0_free_2 := dk_seg dksX0_free_1 23 rfl rfl
theorem dksX0_free_3 : cX0_free.data.toList.drop 70 = dktX0_free_3 := dk_seg dksX0_free_2 24 rfl rfl
theorem dksX0_free_4 : cX0_free.data.toList.drop 94 = dktX0_free_4 := dk_seg dksX0_free_3 24 rfl rfl
theorem dksX0_free_5 : cX0_free.data.toList.drop 118 = dktX0_free_5 := dk_seg dksX0_free_4 24 rfl rfl
theorem dX0_free_0 : decode cX0_free 0 = .ok (.aload_n 0, 1) := dk_42 (dk_at dksX0_free_0 0 rfl rfl)
theorem dX0_free_1 : decode cX0_free 1 = .ok (.iload_n 1, 1) := dk_27 (dk_at dksX0_free_0 1 rfl rfl)
theorem dX0_free_2 : decode cX0_free 2 = .ok (.invokevirtual 277, 3) := dk_182 1 21 (dk_at dksX0_free_0 2 rfl rfl)
theorem dX0_free_5 : decode cX0_free 5 = .ok (.ifCond .eq 11, 3) := dk_153 0 11 (dk_at dksX0_free_0 5 rfl rfl)
theorem dX0_free_8 : decode cX0_free 8 = .ok (.aload_n 0, 1) := dk_42 (dk_at dksX0_free_0 8 rfl rfl)
theorem dX0_free_9 : decode cX0_free 9 = .ok (.iload_n 2, 1) := dk_28 (dk_at dksX0_free_0 9 rfl rfl)
theorem dX0_free_10 : decode cX0_free 10 = .ok (.invokevirtual 110, 3) := dk_182 0 110 (dk_at dksX0_free_0 10 rfl rfl)
theorem dX0_free_13 : decode cX0_free 13 = .ok (.ifCond .ne 5, 3) := dk_154 0 5 (dk_at dksX0_free_0 13 rfl rfl)
theorem dX0_free_16 : decode cX0_free 16 = .ok (.iconst (-1), 1) := dk_2 (dk_at dksX0_free_0 16 rfl rfl)
theorem dX0_free_17 : decode cX0_free 17 = .ok (.ireturn, 1) := dk_172 (dk_at dksX0_free_0 17 rfl rfl)
theorem dX0_free_18 : decode cX0_free 18 = .ok (.aload_n 0, 1) := dk_42 (dk_at dksX0_free_0 18 rfl rfl)
theorem dX0_free_19 : decode cX0_free 19 = .ok (.getfield 32, 3) := dk_180 0 32 (dk_at dksX0_free_0 19 rfl rfl)
theorem dX0_free_22 : decode cX0_free 22 = .ok (.iload_n 1, 1) := dk_27 (dk_at dksX0_free_0 22 rfl rfl)
theorem dX0_free_23 : decode cX0_free 23 = .ok (.invokevirtual 280, 3) := dk_182 1 24 (dk_at dksX0_free_1 0 rfl rfl)
theorem dX0_free_26 : decode cX0_free 26 = .ok (.astore_n 3, 1) := dk_78 (dk_at dksX0_free_1 3 rfl rfl)
theorem dX0_free_27 : decode cX0_free 27 = .ok (.aload_n 3, 1) := dk_45 (dk_at dksX0_free_1 4 rfl rfl)
theorem dX0_free_28 : decode cX0_free 28 = .ok (.iload_n 2, 1) := dk_28 (dk_at dksX0_free_1 5 rfl rfl)
theorem dX0_free_29 : decode cX0_free 29 = .ok (.invokevirtual 298, 3) := dk_182 1 42 (dk_at dksX0_free_1 6 rfl rfl)
theorem dX0_free_32 : decode cX0_free 32 = .ok (.ifCond .ne 6, 3) := dk_154 0 6 (dk_at dksX0_free_1 9 rfl rfl)
theorem dX0_free_35 : decode cX0_free 35 = .ok (.bipush (-2), 2) := dk_16 254 (dk_at dksX0_free_1 12 rfl rfl)
theorem dX0_free_37 : decode cX0_free 37 = .ok (.ireturn, 1) := dk_172 (dk_at dksX0_free_1 14 rfl rfl)
theorem dX0_free_38 : decode cX0_free 38 = .ok (.aload_n 3, 1) := dk_45 (dk_at dksX0_free_1 15 rfl rfl)
theorem dX0_free_39 : decode cX0_free 39 = .ok (.instanceof 254, 3) := dk_193 0 254 (dk_at dksX0_free_1 16 rfl rfl)
theorem dX0_free_42 : decode cX0_free 42 = .ok (.ifCond .eq 17, 3) := dk_153 0 17 (dk_at dksX0_free_1 19 rfl rfl)
theorem dX0_free_45 : decode cX0_free 45 = .ok (.aload_n 3, 1) := dk_45 (dk_at dksX0_free_1 22 rfl rfl)
theorem dX0_free_46 : decode cX0_free 46 = .ok (.getfield 290, 3) := dk_180 1 34 (dk_at dksX0_free_2 0 rfl rfl)
theorem dX0_free_49 : decode cX0_free 49 = .ok (.invokevirtual 301, 3) := dk_182 1 45 (dk_at dksX0_free_2 3 rfl rfl)
theorem dX0_free_52 : decode cX0_free 52 = .ok (.iconst 1, 1) := dk_4 (dk_at dksX0_free_2 6 rfl rfl)
theorem dX0_free_53 : decode cX0_free 53 = .ok (.if_icmp .ne 6, 3) := dk_160 0 6 (dk_at dksX0_free_2 7 rfl rfl)
theorem dX0_free_56 : decode cX0_free 56 = .ok (.bipush (-4), 2) := dk_16 252 (dk_at dksX0_free_2 10 rfl rfl)
theorem dX0_free_58 : decode cX0_free 58 = .ok (.ireturn, 1) := dk_172 (dk_at dksX0_free_2 12 rfl rfl)
theorem dX0_free_59 : decode cX0_free 59 = .ok (.aload_n 3, 1) := dk_45 (dk_at dksX0_free_2 13 rfl rfl)
theorem dX0_free_60 : decode cX0_free 60 = .ok (.instanceof 254, 3) := dk_193 0 254 (dk_at dksX0_free_2 14 rfl rfl)
theorem dX0_free_63 : decode cX0_free 63 = .ok (.ifCond .eq 30, 3) := dk_153 0 30 (dk_at dksX0_free_2 17 rfl rfl)
theorem dX0_free_66 : decode cX0_free 66 = .ok (.aload_n 3, 1) := dk_45 (dk_at dksX0_free_2 20 rfl rfl)
theorem dX0_free_67 : decode cX0_free 67 = .ok (.checkcast 254, 3) := dk_192 0 254 (dk_at dksX0_free_2 21 rfl rfl)
theorem dX0_free_70 : decode cX0_free 70 = .ok (.astore 4, 2) := dk_58 4 (dk_at dksX0_free_3 0 rfl rfl)
theorem dX0_free_72 : decode cX0_free 72 = .ok (.aload_n 0, 1) := dk_42 (dk_at dksX0_free_3 2 rfl rfl)
theorem dX0_free_73 : decode cX0_free 73 = .ok (.getfield 32, 3) := dk_180 0 32 (dk_at dksX0_free_3 3 rfl rfl)
theorem dX0_free_76 : decode cX0_free 76 = .ok (.aload 4, 2) := dk_25 4 (dk_at dksX0_free_3 6 rfl rfl)
theorem dX0_free_78 : decode cX0_free 78 = .ok (.iload_n 2, 1) := dk_28 (dk_at dksX0_free_3 8 rfl rfl)
theorem dX0_free_79 : decode cX0_free 79 = .ok (.invokevirtual 304, 3) := dk_182 1 48 (dk_at dksX0_free_3 9 rfl rfl)
theorem dX0_free_82 : decode cX0_free 82 = .ok (.aload 4, 2) := dk_25 4 (dk_at dksX0_free_3 12 rfl rfl)
theorem dX0_free_84 : decode cX0_free 84 = .ok (.getfield 287, 3) := dk_180 1 31 (dk_at dksX0_free_3 14 rfl rfl)
theorem dX0_free_87 : decode cX0_free 87 = .ok (.if_icmp .ge 6, 3) := dk_162 0 6 (dk_at dksX0_free_3 17 rfl rfl)
theorem dX0_free_90 : decode cX0_free 90 = .ok (.bipush (-5), 2) := dk_16 251 (dk_at dksX0_free_3 20 rfl rfl)
theorem dX0_free_92 : decode cX0_free 92 = .ok (.ireturn, 1) := dk_172 (dk_at dksX0_free_3 22 rfl rfl)
theorem dX0_free_93 : decode cX0_free 93 = .ok (.aload_n 0, 1) := dk_42 (dk_at dksX0_free_3 23 rfl rfl)
theorem dX0_free_94 : decode cX0_free 94 = .ok (.getfield 32, 3) := dk_180 0 32 (dk_at dksX0_free_4 0 rfl rfl)
theorem dX0_free_97 : decode cX0_free 97 = .ok (.invokevirtual 86, 3) := dk_182 0 86 (dk_at dksX0_free_4 3 rfl rfl)
theorem dX0_free_100 : decode cX0_free 100 = .ok (.astore 4, 2) := dk_58 4 (dk_at dksX0_free_4 6 rfl rfl)
theorem dX0_free_102 : decode cX0_free 102 = .ok (.aload_n 3, 1) := dk_45 (dk_at dksX0_free_4 8 rfl rfl)
theorem dX0_free_103 : decode cX0_free 103 = .ok (.getfield 290, 3) := dk_180 1 34 (dk_at dksX0_free_4 9 rfl rfl)
theorem dX0_free_106 : decode cX0_free 106 = .ok (.iload_n 2, 1) := dk_28 (dk_at dksX0_free_4 12 rfl rfl)
theorem dX0_free_107 : decode cX0_free 107 = .ok (.invokevirtual 308, 3) := dk_182 1 52 (dk_at dksX0_free_4 13 rfl rfl)
theorem dX0_free_110 : decode cX0_free 110 = .ok (.aload_n 0, 1) := dk_42 (dk_at dksX0_free_4 16 rfl rfl)
theorem dX0_free_111 : decode cX0_free 111 = .ok (.getfield 32, 3) := dk_180 0 32 (dk_at dksX0_free_4 17 rfl rfl)
theorem dX0_free_114 : decode cX0_free 114 = .ok (.bipush 7, 2) := dk_16 7 (dk_at dksX0_free_4 20 rfl rfl)
theorem dX0_free_116 : decode cX0_free 116 = .ok (.iload_n 1, 1) := dk_27 (dk_at dksX0_free_4 22 rfl rfl)
theorem dX0_free_117 : decode cX0_free 117 = .ok (.iload_n 2, 1) := dk_28 (dk_at dksX0_free_4 23 rfl rfl)
theorem dX0_free_118 : decode cX0_free 118 = .ok (.invokevirtual 200, 3) := dk_182 0 200 (dk_at dksX0_free_5 0 rfl rfl)
theorem dX0_free_121 : decode cX0_free 121 = .ok (.aload_n 0, 1) := dk_42 (dk_at dksX0_free_5 3 rfl rfl)
theorem dX0_free_122 : decode cX0_free 122 = .ok (.aload 4, 2) := dk_25 4 (dk_at dksX0_free_5 4 rfl rfl)
theorem dX0_free_124 : decode cX0_free 124 = .ok (.aload_n 3, 1) := dk_45 (dk_at dksX0_free_5 6 rfl rfl)
theorem dX0_free_125 : decode cX0_free 125 = .ok (.getfield 290, 3) := dk_180 1 34 (dk_at dksX0_free_5 7 rfl rfl)
theorem dX0_free_128 : decode cX0_free 128 = .ok (.invokevirtual 301, 3) := dk_182 1 45 (dk_at dksX0_free_5 10 rfl rfl)
theorem dX0_free_131 : decode cX0_free 131 = .ok (.invokevirtual 93, 3) := dk_182 0 93 (dk_at dksX0_free_5 13 rfl rfl)
theorem dX0_free_134 : decode cX0_free 134 = .ok (.ireturn, 1) := dk_172 (dk_at dksX0_free_5 16 rfl rfl)
abbrev cX0_cede : ByteArray := prog_1_method_32_code
def yX0_cede : MethodName := ⟨RX0, "cede", "(II)I"⟩
def dkwX0_cede_5 : List UInt8 := [180, 1, 58, 182, 0, 93, 172]
abbrev dktX0_cede_5 : List UInt8 := dkwX0_cede_5 ++ []
def dkwX0_cede_4 : List UInt8 := [25, 4, 21, 6, 181, 1, 58, 42, 180, 0, 32, 16, 8, 27, 28, 182, 0, 200, 42, 25, 5, 45]
abbrev dktX0_cede_4 : List UInt8 := dkwX0_cede_4 ++ dktX0_cede_5
def dkwX0_cede_3 : List UInt8 := [42, 180, 0, 32, 182, 0, 86, 58, 5, 45, 180, 1, 58, 54, 6, 45, 25, 4, 180, 1, 58, 181, 1, 58]
abbrev dktX0_cede_3 : List UInt8 := dkwX0_cede_3 ++ dktX0_cede_4
def dkwX0_cede_2 : List UInt8 := [180, 1, 34, 182, 1, 54, 153, 0, 15, 45, 180, 1, 58, 25, 4, 180, 1, 58, 164, 0, 6, 16, 252, 172]
abbrev dktX0_cede_2 : List UInt8 := dkwX0_cede_2 ++ dktX0_cede_3
def dkwX0_cede_1 : List UInt8 := [180, 0, 32, 27, 182, 1, 24, 78, 42, 180, 0, 32, 28, 182, 1, 24, 58, 4, 45, 180, 1, 34, 25, 4]
abbrev dktX0_cede_1 : List UInt8 := dkwX0_cede_1 ++ dktX0_cede_2
def dkwX0_cede_0 : List UInt8 := [42, 27, 182, 1, 21, 153, 0, 16, 42, 28, 182, 1, 21, 153, 0, 8, 27, 28, 160, 0, 5, 2, 172, 42]
abbrev dktX0_cede_0 : List UInt8 := dkwX0_cede_0 ++ dktX0_cede_1
theorem dksX0_cede_0 : cX0_cede.data.toList.drop 0 = dktX0_cede_0 := by decide +kernel
theorem dksX0_cede_1 : cX0_cede.data.toList.drop 24 = dktX0_cede_1 := dk_seg dksX0_cede_0 24 rfl rfl
theorem dksX0_cede_2 : cX0_cede.data.toList.drop 48 = dktX0_cede_2 := dk_seg dksX0_cede_1 24 rfl rfl
theorem dksX0_cede_3 : cX0_cede.data.toList.drop 72 = dktX0_cede_3 := dk_seg dksX0_cede_2 24 rfl rfl
theorem dksX0_cede_4 : cX0_cede.data.toList.drop 96 = dktX0_cede_4 := dk_seg dksX0_cede_3 24 rfl rfl
theorem dksX0_cede_5 : cX0_cede.data.toList.drop 118 = dktX0_cede_5 := dk_seg dksX0_cede_4 22 rfl rfl
theorem dX0_cede_0 : decode cX0_cede 0 = .ok (.aload_n 0, 1) := dk_42 (dk_at dksX0_cede_0 0 rfl rfl)
theorem dX0_cede_1 : decode cX0_cede 1 = .ok (.iload_n 1, 1) := dk_27 (dk_at dksX0_cede_0 1 rfl rfl)
theorem dX0_cede_2 : decode cX0_cede 2 = .ok (.invokevirtual 277, 3) := dk_182 1 21 (dk_at dksX0_cede_0 2 rfl rfl)
theorem dX0_cede_5 : decode cX0_cede 5 = .ok (.ifCond .eq 16, 3) := dk_153 0 16 (dk_at dksX0_cede_0 5 rfl rfl)
theorem dX0_cede_8 : decode cX0_cede 8 = .ok (.aload_n 0, 1) := dk_42 (dk_at dksX0_cede_0 8 rfl rfl)
theorem dX0_cede_9 : decode cX0_cede 9 = .ok (.iload_n 2, 1) := dk_28 (dk_at dksX0_cede_0 9 rfl rfl)
theorem dX0_cede_10 : decode cX0_cede 10 = .ok (.invokevirtual 277, 3) := dk_182 1 21 (dk_at dksX0_cede_0 10 rfl rfl)
theorem dX0_cede_13 : decode cX0_cede 13 = .ok (.ifCond .eq 8, 3) := dk_153 0 8 (dk_at dksX0_cede_0 13 rfl rfl)
theorem dX0_cede_16 : decode cX0_cede 16 = .ok (.iload_n 1, 1) := dk_27 (dk_at dksX0_cede_0 16 rfl rfl)
theorem dX0_cede_17 : decode cX0_cede 17 = .ok (.iload_n 2, 1) := dk_28 (dk_at dksX0_cede_0 17 rfl rfl)
theorem dX0_cede_18 : decode cX0_cede 18 = .ok (.if_icmp .ne 5, 3) := dk_160 0 5 (dk_at dksX0_cede_0 18 rfl rfl)
theorem dX0_cede_21 : decode cX0_cede 21 = .ok (.iconst (-1), 1) := dk_2 (dk_at dksX0_cede_0 21 rfl rfl)
theorem dX0_cede_22 : decode cX0_cede 22 = .ok (.ireturn, 1) := dk_172 (dk_at dksX0_cede_0 22 rfl rfl)
theorem dX0_cede_23 : decode cX0_cede 23 = .ok (.aload_n 0, 1) := dk_42 (dk_at dksX0_cede_0 23 rfl rfl)
theorem dX0_cede_24 : decode cX0_cede 24 = .ok (.getfield 32, 3) := dk_180 0 32 (dk_at dksX0_cede_1 0 rfl rfl)
theorem dX0_cede_27 : decode cX0_cede 27 = .ok (.iload_n 1, 1) := dk_27 (dk_at dksX0_cede_1 3 rfl rfl)
theorem dX0_cede_28 : decode cX0_cede 28 = .ok (.invokevirtual 280, 3) := dk_182 1 24 (dk_at dksX0_cede_1 4 rfl rfl)
theorem dX0_cede_31 : decode cX0_cede 31 = .ok (.astore_n 3, 1) := dk_78 (dk_at dksX0_cede_1 7 rfl rfl)
theorem dX0_cede_32 : decode cX0_cede 32 = .ok (.aload_n 0, 1) := dk_42 (dk_at dksX0_cede_1 8 rfl rfl)
theorem dX0_cede_33 : decode cX0_cede 33 = .ok (.getfield 32, 3) := dk_180 0 32 (dk_at dksX0_cede_1 9 rfl rfl)
theorem dX0_cede_36 : decode cX0_cede 36 = .ok (.iload_n 2, 1) := dk_28 (dk_at dksX0_cede_1 12 rfl rfl)
theorem dX0_cede_37 : decode cX0_cede 37 = .ok (.invokevirtual 280, 3) := dk_182 1 24 (dk_at dksX0_cede_1 13 rfl rfl)
theorem dX0_cede_40 : decode cX0_cede 40 = .ok (.astore 4, 2) := dk_58 4 (dk_at dksX0_cede_1 16 rfl rfl)
theorem dX0_cede_42 : decode cX0_cede 42 = .ok (.aload_n 3, 1) := dk_45 (dk_at dksX0_cede_1 18 rfl rfl)
theorem dX0_cede_43 : decode cX0_cede 43 = .ok (.getfield 290, 3) := dk_180 1 34 (dk_at dksX0_cede_1 19 rfl rfl)
theorem dX0_cede_46 : decode cX0_cede 46 = .ok (.aload 4, 2) := dk_25 4 (dk_at dksX0_cede_1 22 rfl rfl)
theorem dX0_cede_48 : decode cX0_cede 48 = .ok (.getfield 290, 3) := dk_180 1 34 (dk_at dksX0_cede_2 0 rfl rfl)
theorem dX0_cede_51 : decode cX0_cede 51 = .ok (.invokevirtual 310, 3) := dk_182 1 54 (dk_at dksX0_cede_2 3 rfl rfl)
theorem dX0_cede_54 : decode cX0_cede 54 = .ok (.ifCond .eq 15, 3) := dk_153 0 15 (dk_at dksX0_cede_2 6 rfl rfl)
theorem dX0_cede_57 : decode cX0_cede 57 = .ok (.aload_n 3, 1) := dk_45 (dk_at dksX0_cede_2 9 rfl rfl)
theorem dX0_cede_58 : decode cX0_cede 58 = .ok (.getfield 314, 3) := dk_180 1 58 (dk_at dksX0_cede_2 10 rfl rfl)
theorem dX0_cede_61 : decode cX0_cede 61 = .ok (.aload 4, 2) := dk_25 4 (dk_at dksX0_cede_2 13 rfl rfl)
theorem dX0_cede_63 : decode cX0_cede 63 = .ok (.getfield 314, 3) := dk_180 1 58 (dk_at dksX0_cede_2 15 rfl rfl)
theorem dX0_cede_66 : decode cX0_cede 66 = .ok (.if_icmp .le 6, 3) := dk_164 0 6 (dk_at dksX0_cede_2 18 rfl rfl)
theorem dX0_cede_69 : decode cX0_cede 69 = .ok (.bipush (-4), 2) := dk_16 252 (dk_at dksX0_cede_2 21 rfl rfl)
theorem dX0_cede_71 : decode cX0_cede 71 = .ok (.ireturn, 1) := dk_172 (dk_at dksX0_cede_2 23 rfl rfl)
theorem dX0_cede_72 : decode cX0_cede 72 = .ok (.aload_n 0, 1) := dk_42 (dk_at dksX0_cede_3 0 rfl rfl)
theorem dX0_cede_73 : decode cX0_cede 73 = .ok (.getfield 32, 3) := dk_180 0 32 (dk_at dksX0_cede_3 1 rfl rfl)
theorem dX0_cede_76 : decode cX0_cede 76 = .ok (.invokevirtual 86, 3) := dk_182 0 86 (dk_at dksX0_cede_3 4 rfl rfl)
theorem dX0_cede_79 : decode cX0_cede 79 = .ok (.astore 5, 2) := dk_58 5 (dk_at dksX0_cede_3 7 rfl rfl)
theorem dX0_cede_81 : decode cX0_cede 81 = .ok (.aload_n 3, 1) := dk_45 (dk_at dksX0_cede_3 9 rfl rfl)
theorem dX0_cede_82 : decode cX0_cede 82 = .ok (.getfield 314, 3) := dk_180 1 58 (dk_at dksX0_cede_3 10 rfl rfl)
theorem dX0_cede_85 : decode cX0_cede 85 = .ok (.istore 6, 2) := dk_54 6 (dk_at dksX0_cede_3 13 rfl rfl)
theorem dX0_cede_87 : decode cX0_cede 87 = .ok (.aload_n 3, 1) := dk_45 (dk_at dksX0_cede_3 15 rfl rfl)
theorem dX0_cede_88 : decode cX0_cede 88 = .ok (.aload 4, 2) := dk_25 4 (dk_at dksX0_cede_3 16 rfl rfl)
theorem dX0_cede_90 : decode cX0_cede 90 = .ok (.getfield 314, 3) := dk_180 1 58 (dk_at dksX0_cede_3 18 rfl rfl)
theorem dX0_cede_93 : decode cX0_cede 93 = .ok (.putfield 314, 3) := dk_181 1 58 (dk_at dksX0_cede_3 21 rfl rfl)
theorem dX0_cede_96 : decode cX0_cede 96 = .ok (.aload 4, 2) := dk_25 4 (dk_at dksX0_cede_4 0 rfl rfl)
theorem dX0_cede_98 : decode cX0_cede 98 = .ok (.iload 6, 2) := dk_21 6 (dk_at dksX0_cede_4 2 rfl rfl)
theorem dX0_cede_100 : decode cX0_cede 100 = .ok (.putfield 314, 3) := dk_181 1 58 (dk_at dksX0_cede_4 4 rfl rfl)
theorem dX0_cede_103 : decode cX0_cede 103 = .ok (.aload_n 0, 1) := dk_42 (dk_at dksX0_cede_4 7 rfl rfl)
theorem dX0_cede_104 : decode cX0_cede 104 = .ok (.getfield 32, 3) := dk_180 0 32 (dk_at dksX0_cede_4 8 rfl rfl)
theorem dX0_cede_107 : decode cX0_cede 107 = .ok (.bipush 8, 2) := dk_16 8 (dk_at dksX0_cede_4 11 rfl rfl)
theorem dX0_cede_109 : decode cX0_cede 109 = .ok (.iload_n 1, 1) := dk_27 (dk_at dksX0_cede_4 13 rfl rfl)
theorem dX0_cede_110 : decode cX0_cede 110 = .ok (.iload_n 2, 1) := dk_28 (dk_at dksX0_cede_4 14 rfl rfl)
theorem dX0_cede_111 : decode cX0_cede 111 = .ok (.invokevirtual 200, 3) := dk_182 0 200 (dk_at dksX0_cede_4 15 rfl rfl)
theorem dX0_cede_114 : decode cX0_cede 114 = .ok (.aload_n 0, 1) := dk_42 (dk_at dksX0_cede_4 18 rfl rfl)
theorem dX0_cede_115 : decode cX0_cede 115 = .ok (.aload 5, 2) := dk_25 5 (dk_at dksX0_cede_4 19 rfl rfl)
theorem dX0_cede_117 : decode cX0_cede 117 = .ok (.aload_n 3, 1) := dk_45 (dk_at dksX0_cede_4 21 rfl rfl)
theorem dX0_cede_118 : decode cX0_cede 118 = .ok (.getfield 314, 3) := dk_180 1 58 (dk_at dksX0_cede_5 0 rfl rfl)
theorem dX0_cede_121 : decode cX0_cede 121 = .ok (.invokevirtual 93, 3) := dk_182 0 93 (dk_at dksX0_cede_5 3 rfl rfl)
theorem dX0_cede_124 : decode cX0_cede 124 = .ok (.ireturn, 1) := dk_172 (dk_at dksX0_cede_5 6 rfl rfl)
abbrev cX0_bar : ByteArray := prog_1_method_34_code
def yX0_bar : MethodName := ⟨RX0, "bar", "(II)I"⟩
def dkwX0_bar_4 : List UInt8 := [25, 4, 42, 182, 1, 66, 182, 0, 93, 172]
abbrev dktX0_bar_4 : List UInt8 := dkwX0_bar_4 ++ []
def dkwX0_bar_3 : List UInt8 := [160, 0, 7, 4, 167, 0, 4, 3, 181, 1, 62, 42, 180, 0, 32, 16, 9, 27, 28, 182, 0, 200, 42]
abbrev dktX0_bar_3 : List UInt8 := dkwX0_bar_3 ++ dktX0_bar_4
def dkwX0_bar_2 : List UInt8 := [167, 0, 4, 3, 160, 0, 6, 16, 254, 172, 42, 180, 0, 32, 182, 0, 86, 58, 4, 45, 28, 4]
abbrev dktX0_bar_2 : List UInt8 := dkwX0_bar_2 ++ dktX0_bar_3
def dkwX0_bar_1 : List UInt8 := [182, 0, 116, 78, 45, 182, 1, 59, 154, 0, 6, 16, 252, 172, 45, 180, 1, 62, 28, 4, 160, 0, 7, 4]
abbrev dktX0_bar_1 : List UInt8 := dkwX0_bar_1 ++ dktX0_bar_2
def dkwX0_bar_0 : List UInt8 := [42, 27, 182, 0, 110, 153, 0, 10, 28, 184, 0, 113, 154, 0, 5, 2, 172, 42, 180, 0, 32, 27]
abbrev dktX0_bar_0 : List UInt8 := dkwX0_bar_0 ++ dktX0_bar_1
theorem dksX0_bar_0 : cX0_bar.data.toList.drop 0 = dktX0_bar_0 := by decide +kernel
theorem dksX0_bar_1 : cX0_bar.data.toList.drop 22 = dktX0_bar_1 := dk_seg dksX0_bar_0 22 rfl rfl
theorem dksX0_bar_2 : cX0_bar.data.toList.drop 46 = dktX0_bar_2 := dk_seg dksX0_bar_1 24 rfl rfl
theorem dksX0_bar_3 : cX0_bar.data.toList.drop 68 = dktX0_bar_3 := dk_seg dksX0_bar_2 22 rfl rfl
theorem dksX0_bar_4 : cX0_bar.data.toList.drop 91 = dktX0_bar_4 := dk_seg dksX0_bar_3 23 rfl rfl
theorem dX0_bar_0 : decode cX0_bar 0 = .ok (.aload_n 0, 1) := dk_42 (dk_at dksX0_bar_0 0 rfl rfl)
theorem dX0_bar_1 : decode cX0_bar 1 = .ok (.iload_n 1, 1) := dk_27 (dk_at dksX0_bar_0 1 rfl rfl)
theorem dX0_bar_2 : decode cX0_bar 2 = .ok (.invokevirtual 110, 3) := dk_182 0 110 (dk_at dksX0_bar_0 2 rfl rfl)
theorem dX0_bar_5 : decode cX0_bar 5 = .ok (.ifCond .eq 10, 3) := dk_153 0 10 (dk_at dksX0_bar_0 5 rfl rfl)
theorem dX0_bar_8 : decode cX0_bar 8 = .ok (.iload_n 2, 1) := dk_28 (dk_at dksX0_bar_0 8 rfl rfl)
theorem dX0_bar_9 : decode cX0_bar 9 = .ok (.invokestatic 113, 3) := dk_184 0 113 (dk_at dksX0_bar_0 9 rfl rfl)
theorem dX0_bar_12 : decode cX0_bar 12 = .ok (.ifCond .ne 5, 3) := dk_154 0 5 (dk_at dksX0_bar_0 12 rfl rfl)
theorem dX0_bar_15 : decode cX0_bar 15 = .ok (.iconst (-1), 1) := dk_2 (dk_at dksX0_bar_0 15 rfl rfl)
theorem dX0_bar_16 : decode cX0_bar 16 = .ok (.ireturn, 1) := dk_172 (dk_at dksX0_bar_0 16 rfl rfl)
theorem dX0_bar_17 : decode cX0_bar 17 = .ok (.aload_n 0, 1) := dk_42 (dk_at dksX0_bar_0 17 rfl rfl)
theorem dX0_bar_18 : decode cX0_bar 18 = .ok (.getfield 32, 3) := dk_180 0 32 (dk_at dksX0_bar_0 18 rfl rfl)
theorem dX0_bar_21 : decode cX0_bar 21 = .ok (.iload_n 1, 1) := dk_27 (dk_at dksX0_bar_0 21 rfl rfl)
theorem dX0_bar_22 : decode cX0_bar 22 = .ok (.invokevirtual 116, 3) := dk_182 0 116 (dk_at dksX0_bar_1 0 rfl rfl)
theorem dX0_bar_25 : decode cX0_bar 25 = .ok (.astore_n 3, 1) := dk_78 (dk_at dksX0_bar_1 3 rfl rfl)
theorem dX0_bar_26 : decode cX0_bar 26 = .ok (.aload_n 3, 1) := dk_45 (dk_at dksX0_bar_1 4 rfl rfl)
theorem dX0_bar_27 : decode cX0_bar 27 = .ok (.invokevirtual 315, 3) := dk_182 1 59 (dk_at dksX0_bar_1 5 rfl rfl)
theorem dX0_bar_30 : decode cX0_bar 30 = .ok (.ifCond .ne 6, 3) := dk_154 0 6 (dk_at dksX0_bar_1 8 rfl rfl)
theorem dX0_bar_33 : decode cX0_bar 33 = .ok (.bipush (-4), 2) := dk_16 252 (dk_at dksX0_bar_1 11 rfl rfl)
theorem dX0_bar_35 : decode cX0_bar 35 = .ok (.ireturn, 1) := dk_172 (dk_at dksX0_bar_1 13 rfl rfl)
theorem dX0_bar_36 : decode cX0_bar 36 = .ok (.aload_n 3, 1) := dk_45 (dk_at dksX0_bar_1 14 rfl rfl)
theorem dX0_bar_37 : decode cX0_bar 37 = .ok (.getfield 318, 3) := dk_180 1 62 (dk_at dksX0_bar_1 15 rfl rfl)
theorem dX0_bar_40 : decode cX0_bar 40 = .ok (.iload_n 2, 1) := dk_28 (dk_at dksX0_bar_1 18 rfl rfl)
theorem dX0_bar_41 : decode cX0_bar 41 = .ok (.iconst 1, 1) := dk_4 (dk_at dksX0_bar_1 19 rfl rfl)
theorem dX0_bar_42 : decode cX0_bar 42 = .ok (.if_icmp .ne 7, 3) := dk_160 0 7 (dk_at dksX0_bar_1 20 rfl rfl)
theorem dX0_bar_45 : decode cX0_bar 45 = .ok (.iconst 1, 1) := dk_4 (dk_at dksX0_bar_1 23 rfl rfl)
theorem dX0_bar_46 : decode cX0_bar 46 = .ok (.goto 4, 3) := dk_167 0 4 (dk_at dksX0_bar_2 0 rfl rfl)
theorem dX0_bar_49 : decode cX0_bar 49 = .ok (.iconst 0, 1) := dk_3 (dk_at dksX0_bar_2 3 rfl rfl)
theorem dX0_bar_50 : decode cX0_bar 50 = .ok (.if_icmp .ne 6, 3) := dk_160 0 6 (dk_at dksX0_bar_2 4 rfl rfl)
theorem dX0_bar_53 : decode cX0_bar 53 = .ok (.bipush (-2), 2) := dk_16 254 (dk_at dksX0_bar_2 7 rfl rfl)
theorem dX0_bar_55 : decode cX0_bar 55 = .ok (.ireturn, 1) := dk_172 (dk_at dksX0_bar_2 9 rfl rfl)
theorem dX0_bar_56 : decode cX0_bar 56 = .ok (.aload_n 0, 1) := dk_42 (dk_at dksX0_bar_2 10 rfl rfl)
theorem dX0_bar_57 : decode cX0_bar 57 = .ok (.getfield 32, 3) := dk_180 0 32 (dk_at dksX0_bar_2 11 rfl rfl)
theorem dX0_bar_60 : decode cX0_bar 60 = .ok (.invokevirtual 86, 3) := dk_182 0 86 (dk_at dksX0_bar_2 14 rfl rfl)
theorem dX0_bar_63 : decode cX0_bar 63 = .ok (.astore 4, 2) := dk_58 4 (dk_at dksX0_bar_2 17 rfl rfl)
theorem dX0_bar_65 : decode cX0_bar 65 = .ok (.aload_n 3, 1) := dk_45 (dk_at dksX0_bar_2 19 rfl rfl)
theorem dX0_bar_66 : decode cX0_bar 66 = .ok (.iload_n 2, 1) := dk_28 (dk_at dksX0_bar_2 20 rfl rfl)
theorem dX0_bar_67 : decode cX0_bar 67 = .ok (.iconst 1, 1) := dk_4 (dk_at dksX0_bar_2 21 rfl rfl)
theorem dX0_bar_68 : decode cX0_bar 68 = .ok (.if_icmp .ne 7, 3) := dk_160 0 7 (dk_at dksX0_bar_3 0 rfl rfl)
theorem dX0_bar_71 : decode cX0_bar 71 = .ok (.iconst 1, 1) := dk_4 (dk_at dksX0_bar_3 3 rfl rfl)
theorem dX0_bar_72 : decode cX0_bar 72 = .ok (.goto 4, 3) := dk_167 0 4 (dk_at dksX0_bar_3 4 rfl rfl)
theorem dX0_bar_75 : decode cX0_bar 75 = .ok (.iconst 0, 1) := dk_3 (dk_at dksX0_bar_3 7 rfl rfl)
theorem dX0_bar_76 : decode cX0_bar 76 = .ok (.putfield 318, 3) := dk_181 1 62 (dk_at dksX0_bar_3 8 rfl rfl)
theorem dX0_bar_79 : decode cX0_bar 79 = .ok (.aload_n 0, 1) := dk_42 (dk_at dksX0_bar_3 11 rfl rfl)
theorem dX0_bar_80 : decode cX0_bar 80 = .ok (.getfield 32, 3) := dk_180 0 32 (dk_at dksX0_bar_3 12 rfl rfl)
theorem dX0_bar_83 : decode cX0_bar 83 = .ok (.bipush 9, 2) := dk_16 9 (dk_at dksX0_bar_3 15 rfl rfl)
theorem dX0_bar_85 : decode cX0_bar 85 = .ok (.iload_n 1, 1) := dk_27 (dk_at dksX0_bar_3 17 rfl rfl)
theorem dX0_bar_86 : decode cX0_bar 86 = .ok (.iload_n 2, 1) := dk_28 (dk_at dksX0_bar_3 18 rfl rfl)
theorem dX0_bar_87 : decode cX0_bar 87 = .ok (.invokevirtual 200, 3) := dk_182 0 200 (dk_at dksX0_bar_3 19 rfl rfl)
theorem dX0_bar_90 : decode cX0_bar 90 = .ok (.aload_n 0, 1) := dk_42 (dk_at dksX0_bar_3 22 rfl rfl)
theorem dX0_bar_91 : decode cX0_bar 91 = .ok (.aload 4, 2) := dk_25 4 (dk_at dksX0_bar_4 0 rfl rfl)
theorem dX0_bar_93 : decode cX0_bar 93 = .ok (.aload_n 0, 1) := dk_42 (dk_at dksX0_bar_4 2 rfl rfl)
theorem dX0_bar_94 : decode cX0_bar 94 = .ok (.invokevirtual 322, 3) := dk_182 1 66 (dk_at dksX0_bar_4 3 rfl rfl)
theorem dX0_bar_97 : decode cX0_bar 97 = .ok (.invokevirtual 93, 3) := dk_182 0 93 (dk_at dksX0_bar_4 6 rfl rfl)
theorem dX0_bar_100 : decode cX0_bar 100 = .ok (.ireturn, 1) := dk_172 (dk_at dksX0_bar_4 9 rfl rfl)
abbrev cX0_barred : ByteArray := prog_1_method_33_code
def yX0_barred : MethodName := ⟨RX0, "barred", "()I"⟩
def dkwX0_barred_2 : List UInt8 := [167, 0, 4, 3, 96, 60, 132, 2, 1, 167, 255, 203, 27, 172]
abbrev dktX0_barred_2 : List UInt8 := dkwX0_barred_2 ++ []
def dkwX0_barred_1 : List UInt8 := [182, 0, 116, 182, 1, 59, 153, 0, 21, 42, 180, 0, 32, 28, 182, 0, 116, 180, 1, 62, 153, 0, 7, 4]
abbrev dktX0_barred_1 : List UInt8 := dkwX0_barred_1 ++ dktX0_barred_2
def dkwX0_barred_0 : List UInt8 := [3, 60, 3, 61, 28, 42, 180, 0, 32, 180, 0, 89, 182, 0, 92, 162, 0, 45, 27, 42, 180, 0, 32, 28]
abbrev dktX0_barred_0 : List UInt8 := dkwX0_barred_0 ++ dktX0_barred_1
theorem dksX0_barred_0 : cX0_barred.data.toList.drop 0 = dktX0_barred_0 := by decide +kernel
theorem dksX0_barred_1 : cX0_barred.data.toList.drop 24 = dktX0_barred_1 := dk_seg dksX0_barred_0 24 rfl rfl
theorem dksX0_barred_2 : cX0_barred.data.toList.drop 48 = dktX0_barred_2 := dk_seg dksX0_barred_1 24 rfl rfl
theorem dX0_barred_0 : decode cX0_barred 0 = .ok (.iconst 0, 1) := dk_3 (dk_at dksX0_barred_0 0 rfl rfl)
theorem dX0_barred_1 : decode cX0_barred 1 = .ok (.istore_n 1, 1) := dk_60 (dk_at dksX0_barred_0 1 rfl rfl)
theorem dX0_barred_2 : decode cX0_barred 2 = .ok (.iconst 0, 1) := dk_3 (dk_at dksX0_barred_0 2 rfl rfl)
theorem dX0_barred_3 : decode cX0_barred 3 = .ok (.istore_n 2, 1) := dk_61 (dk_at dksX0_barred_0 3 rfl rfl)
theorem dX0_barred_4 : decode cX0_barred 4 = .ok (.iload_n 2, 1) := dk_28 (dk_at dksX0_barred_0 4 rfl rfl)
theorem dX0_barred_5 : decode cX0_barred 5 = .ok (.aload_n 0, 1) := dk_42 (dk_at dksX0_barred_0 5 rfl rfl)
theorem dX0_barred_6 : decode cX0_barred 6 = .ok (.getfield 32, 3) := dk_180 0 32 (dk_at dksX0_barred_0 6 rfl rfl)
theorem dX0_barred_9 : decode cX0_barred 9 = .ok (.getfield 89, 3) := dk_180 0 89 (dk_at dksX0_barred_0 9 rfl rfl)
theorem dX0_barred_12 : decode cX0_barred 12 = .ok (.invokevirtual 92, 3) := dk_182 0 92 (dk_at dksX0_barred_0 12 rfl rfl)
theorem dX0_barred_15 : decode cX0_barred 15 = .ok (.if_icmp .ge 45, 3) := dk_162 0 45 (dk_at dksX0_barred_0 15 rfl rfl)
theorem dX0_barred_18 : decode cX0_barred 18 = .ok (.iload_n 1, 1) := dk_27 (dk_at dksX0_barred_0 18 rfl rfl)
theorem dX0_barred_19 : decode cX0_barred 19 = .ok (.aload_n 0, 1) := dk_42 (dk_at dksX0_barred_0 19 rfl rfl)
theorem dX0_barred_20 : decode cX0_barred 20 = .ok (.getfield 32, 3) := dk_180 0 32 (dk_at dksX0_barred_0 20 rfl rfl)
theorem dX0_barred_23 : decode cX0_barred 23 = .ok (.iload_n 2, 1) := dk_28 (dk_at dksX0_barred_0 23 rfl rfl)
theorem dX0_barred_24 : decode cX0_barred 24 = .ok (.invokevirtual 116, 3) := dk_182 0 116 (dk_at dksX0_barred_1 0 rfl rfl)
theorem dX0_barred_27 : decode cX0_barred 27 = .ok (.invokevirtual 315, 3) := dk_182 1 59 (dk_at dksX0_barred_1 3 rfl rfl)
theorem dX0_barred_30 : decode cX0_barred 30 = .ok (.ifCond .eq 21, 3) := dk_153 0 21 (dk_at dksX0_barred_1 6 rfl rfl)
theorem dX0_barred_33 : decode cX0_barred 33 = .ok (.aload_n 0, 1) := dk_42 (dk_at dksX0_barred_1 9 rfl rfl)
theorem dX0_barred_34 : decode cX0_barred 34 = .ok (.getfield 32, 3) := dk_180 0 32 (dk_at dksX0_barred_1 10 rfl rfl)
theorem dX0_barred_37 : decode cX0_barred 37 = .ok (.iload_n 2, 1) := dk_28 (dk_at dksX0_barred_1 13 rfl rfl)
theorem dX0_barred_38 : decode cX0_barred 38 = .ok (.invokevirtual 116, 3) := dk_182 0 116 (dk_at dksX0_barred_1 14 rfl rfl)
theorem dX0_barred_41 : decode cX0_barred 41 = .ok (.getfield 318, 3) := dk_180 1 62 (dk_at dksX0_barred_1 17 rfl rfl)
theorem dX0_barred_44 : decode cX0_barred 44 = .ok (.ifCond .eq 7, 3) := dk_153 0 7 (dk_at dksX0_barred_1 20 rfl rfl)
theorem dX0_barred_47 : decode cX0_barred 47 = .ok (.iconst 1, 1) := dk_4 (dk_at dksX0_barred_1 23 rfl rfl)
theorem dX0_barred_48 : decode cX0_barred 48 = .ok (.goto 4, 3) := dk_167 0 4 (dk_at dksX0_barred_2 0 rfl rfl)
theorem dX0_barred_51 : decode cX0_barred 51 = .ok (.iconst 0, 1) := dk_3 (dk_at dksX0_barred_2 3 rfl rfl)
theorem dX0_barred_52 : decode cX0_barred 52 = .ok (.iadd, 1) := dk_96 (dk_at dksX0_barred_2 4 rfl rfl)
theorem dX0_barred_53 : decode cX0_barred 53 = .ok (.istore_n 1, 1) := dk_60 (dk_at dksX0_barred_2 5 rfl rfl)
theorem dX0_barred_54 : decode cX0_barred 54 = .ok (.iinc 2 1, 3) := dk_132 2 1 (dk_at dksX0_barred_2 6 rfl rfl)
theorem dX0_barred_57 : decode cX0_barred 57 = .ok (.goto (-53), 3) := dk_167 255 203 (dk_at dksX0_barred_2 9 rfl rfl)
theorem dX0_barred_60 : decode cX0_barred 60 = .ok (.iload_n 1, 1) := dk_27 (dk_at dksX0_barred_2 12 rfl rfl)
theorem dX0_barred_61 : decode cX0_barred 61 = .ok (.ireturn, 1) := dk_172 (dk_at dksX0_barred_2 13 rfl rfl)
abbrev cX0_days : ByteArray := prog_1_method_35_code
def yX0_days : MethodName := ⟨RX0, "days", "(I)I"⟩
def dkwX0_days_3 : List UInt8 := [182, 0, 200, 42, 44, 42, 180, 0, 32, 180, 1, 0, 182, 0, 93, 172]
abbrev dktX0_days_3 : List UInt8 := dkwX0_days_3 ++ []
def dkwX0_days_2 : List UInt8 := [180, 1, 0, 27, 96, 181, 1, 0, 42, 180, 0, 32, 16, 10, 27, 42, 180, 0, 32, 180, 1, 0]
abbrev dktX0_days_2 : List UInt8 := dkwX0_days_2 ++ dktX0_days_3
def dkwX0_days_1 : List UInt8 := [17, 39, 15, 164, 0, 6, 16, 253, 172, 42, 180, 0, 32, 182, 0, 86, 77, 42, 180, 0, 32, 89]
abbrev dktX0_days_1 : List UInt8 := dkwX0_days_1 ++ dktX0_days_2
def dkwX0_days_0 : List UInt8 := [27, 4, 17, 3, 232, 184, 0, 78, 154, 0, 5, 2, 172, 42, 180, 0, 32, 180, 1, 0, 27, 96]
abbrev dktX0_days_0 : List UInt8 := dkwX0_days_0 ++ dktX0_days_1
theorem dksX0_days_0 : cX0_days.data.toList.drop 0 = dktX0_days_0 := by decide +kernel
theorem dksX0_days_1 : cX0_days.data.toList.drop 22 = dktX0_days_1 := dk_seg dksX0_days_0 22 rfl rfl
theorem dksX0_days_2 : cX0_days.data.toList.drop 44 = dktX0_days_2 := dk_seg dksX0_days_1 22 rfl rfl
theorem dksX0_days_3 : cX0_days.data.toList.drop 66 = dktX0_days_3 := dk_seg dksX0_days_2 22 rfl rfl
theorem dX0_days_0 : decode cX0_days 0 = .ok (.iload_n 1, 1) := dk_27 (dk_at dksX0_days_0 0 rfl rfl)
theorem dX0_days_1 : decode cX0_days 1 = .ok (.iconst 1, 1) := dk_4 (dk_at dksX0_days_0 1 rfl rfl)
theorem dX0_days_2 : decode cX0_days 2 = .ok (.sipush 1000, 3) := dk_17 3 232 (dk_at dksX0_days_0 2 rfl rfl)
theorem dX0_days_5 : decode cX0_days 5 = .ok (.invokestatic 78, 3) := dk_184 0 78 (dk_at dksX0_days_0 5 rfl rfl)
theorem dX0_days_8 : decode cX0_days 8 = .ok (.ifCond .ne 5, 3) := dk_154 0 5 (dk_at dksX0_days_0 8 rfl rfl)
theorem dX0_days_11 : decode cX0_days 11 = .ok (.iconst (-1), 1) := dk_2 (dk_at dksX0_days_0 11 rfl rfl)
theorem dX0_days_12 : decode cX0_days 12 = .ok (.ireturn, 1) := dk_172 (dk_at dksX0_days_0 12 rfl rfl)
theorem dX0_days_13 : decode cX0_days 13 = .ok (.aload_n 0, 1) := dk_42 (dk_at dksX0_days_0 13 rfl rfl)
theorem dX0_days_14 : decode cX0_days 14 = .ok (.getfield 32, 3) := dk_180 0 32 (dk_at dksX0_days_0 14 rfl rfl)
theorem dX0_days_17 : decode cX0_days 17 = .ok (.getfield 256, 3) := dk_180 1 0 (dk_at dksX0_days_0 17 rfl rfl)
theorem dX0_days_20 : decode cX0_days 20 = .ok (.iload_n 1, 1) := dk_27 (dk_at dksX0_days_0 20 rfl rfl)
theorem dX0_days_21 : decode cX0_days 21 = .ok (.iadd, 1) := dk_96 (dk_at dksX0_days_0 21 rfl rfl)
theorem dX0_days_22 : decode cX0_days 22 = .ok (.sipush 9999, 3) := dk_17 39 15 (dk_at dksX0_days_1 0 rfl rfl)
theorem dX0_days_25 : decode cX0_days 25 = .ok (.if_icmp .le 6, 3) := dk_164 0 6 (dk_at dksX0_days_1 3 rfl rfl)
theorem dX0_days_28 : decode cX0_days 28 = .ok (.bipush (-3), 2) := dk_16 253 (dk_at dksX0_days_1 6 rfl rfl)
theorem dX0_days_30 : decode cX0_days 30 = .ok (.ireturn, 1) := dk_172 (dk_at dksX0_days_1 8 rfl rfl)
theorem dX0_days_31 : decode cX0_days 31 = .ok (.aload_n 0, 1) := dk_42 (dk_at dksX0_days_1 9 rfl rfl)
theorem dX0_days_32 : decode cX0_days 32 = .ok (.getfield 32, 3) := dk_180 0 32 (dk_at dksX0_days_1 10 rfl rfl)
theorem dX0_days_35 : decode cX0_days 35 = .ok (.invokevirtual 86, 3) := dk_182 0 86 (dk_at dksX0_days_1 13 rfl rfl)
theorem dX0_days_38 : decode cX0_days 38 = .ok (.astore_n 2, 1) := dk_77 (dk_at dksX0_days_1 16 rfl rfl)
theorem dX0_days_39 : decode cX0_days 39 = .ok (.aload_n 0, 1) := dk_42 (dk_at dksX0_days_1 17 rfl rfl)
theorem dX0_days_40 : decode cX0_days 40 = .ok (.getfield 32, 3) := dk_180 0 32 (dk_at dksX0_days_1 18 rfl rfl)
theorem dX0_days_43 : decode cX0_days 43 = .ok (.dup, 1) := dk_89 (dk_at dksX0_days_1 21 rfl rfl)
theorem dX0_days_44 : decode cX0_days 44 = .ok (.getfield 256, 3) := dk_180 1 0 (dk_at dksX0_days_2 0 rfl rfl)
theorem dX0_days_47 : decode cX0_days 47 = .ok (.iload_n 1, 1) := dk_27 (dk_at dksX0_days_2 3 rfl rfl)
theorem dX0_days_48 : decode cX0_days 48 = .ok (.iadd, 1) := dk_96 (dk_at dksX0_days_2 4 rfl rfl)
theorem dX0_days_49 : decode cX0_days 49 = .ok (.putfield 256, 3) := dk_181 1 0 (dk_at dksX0_days_2 5 rfl rfl)
theorem dX0_days_52 : decode cX0_days 52 = .ok (.aload_n 0, 1) := dk_42 (dk_at dksX0_days_2 8 rfl rfl)
theorem dX0_days_53 : decode cX0_days 53 = .ok (.getfield 32, 3) := dk_180 0 32 (dk_at dksX0_days_2 9 rfl rfl)
theorem dX0_days_56 : decode cX0_days 56 = .ok (.bipush 10, 2) := dk_16 10 (dk_at dksX0_days_2 12 rfl rfl)
theorem dX0_days_58 : decode cX0_days 58 = .ok (.iload_n 1, 1) := dk_27 (dk_at dksX0_days_2 14 rfl rfl)
theorem dX0_days_59 : decode cX0_days 59 = .ok (.aload_n 0, 1) := dk_42 (dk_at dksX0_days_2 15 rfl rfl)
theorem dX0_days_60 : decode cX0_days 60 = .ok (.getfield 32, 3) := dk_180 0 32 (dk_at dksX0_days_2 16 rfl rfl)
theorem dX0_days_63 : decode cX0_days 63 = .ok (.getfield 256, 3) := dk_180 1 0 (dk_at dksX0_days_2 19 rfl rfl)
theorem dX0_days_66 : decode cX0_days 66 = .ok (.invokevirtual 200, 3) := dk_182 0 200 (dk_at dksX0_days_3 0 rfl rfl)
theorem dX0_days_69 : decode cX0_days 69 = .ok (.aload_n 0, 1) := dk_42 (dk_at dksX0_days_3 3 rfl rfl)
theorem dX0_days_70 : decode cX0_days 70 = .ok (.aload_n 2, 1) := dk_44 (dk_at dksX0_days_3 4 rfl rfl)
theorem dX0_days_71 : decode cX0_days 71 = .ok (.aload_n 0, 1) := dk_42 (dk_at dksX0_days_3 5 rfl rfl)
theorem dX0_days_72 : decode cX0_days 72 = .ok (.getfield 32, 3) := dk_180 0 32 (dk_at dksX0_days_3 6 rfl rfl)
theorem dX0_days_75 : decode cX0_days 75 = .ok (.getfield 256, 3) := dk_180 1 0 (dk_at dksX0_days_3 9 rfl rfl)
theorem dX0_days_78 : decode cX0_days 78 = .ok (.invokevirtual 93, 3) := dk_182 0 93 (dk_at dksX0_days_3 12 rfl rfl)
theorem dX0_days_81 : decode cX0_days 81 = .ok (.ireturn, 1) := dk_172 (dk_at dksX0_days_3 15 rfl rfl)
abbrev cX0_price : ByteArray := prog_1_method_36_code
def yX0_price : MethodName := ⟨RX0, "price", "(I)I"⟩
def dkwX0_price_2 : List UInt8 := [180, 0, 32, 16, 11, 27, 28, 182, 0, 200, 42, 45, 28, 182, 0, 93, 172]
abbrev dktX0_price_2 : List UInt8 := dkwX0_price_2 ++ []
def dkwX0_price_1 : List UInt8 := [160, 0, 6, 16, 254, 172, 42, 180, 0, 32, 182, 0, 86, 78, 42, 180, 0, 32, 27, 181, 1, 69, 42]
abbrev dktX0_price_1 : List UInt8 := dkwX0_price_1 ++ dktX0_price_2
def dkwX0_price_0 : List UInt8 := [27, 4, 16, 99, 184, 0, 78, 154, 0, 5, 2, 172, 42, 180, 0, 32, 180, 1, 69, 61, 28, 27]
abbrev dktX0_price_0 : List UInt8 := dkwX0_price_0 ++ dktX0_price_1
theorem dksX0_price_0 : cX0_price.data.toList.drop 0 = dktX0_price_0 := by decide +kernel
theorem dksX0_price_1 : cX0_price.data.toList.drop 22 = dktX0_price_1 := dk_seg dksX0_price_0 22 rfl rfl
theorem dksX0_price_2 : cX0_price.data.toList.drop 45 = dktX0_price_2 := dk_seg dksX0_price_1 23 rfl rfl
theorem dX0_price_0 : decode cX0_price 0 = .ok (.iload_n 1, 1) := dk_27 (dk_at dksX0_price_0 0 rfl rfl)
theorem dX0_price_1 : decode cX0_price 1 = .ok (.iconst 1, 1) := dk_4 (dk_at dksX0_price_0 1 rfl rfl)
theorem dX0_price_2 : decode cX0_price 2 = .ok (.bipush 99, 2) := dk_16 99 (dk_at dksX0_price_0 2 rfl rfl)
theorem dX0_price_4 : decode cX0_price 4 = .ok (.invokestatic 78, 3) := dk_184 0 78 (dk_at dksX0_price_0 4 rfl rfl)
theorem dX0_price_7 : decode cX0_price 7 = .ok (.ifCond .ne 5, 3) := dk_154 0 5 (dk_at dksX0_price_0 7 rfl rfl)
theorem dX0_price_10 : decode cX0_price 10 = .ok (.iconst (-1), 1) := dk_2 (dk_at dksX0_price_0 10 rfl rfl)
theorem dX0_price_11 : decode cX0_price 11 = .ok (.ireturn, 1) := dk_172 (dk_at dksX0_price_0 11 rfl rfl)
theorem dX0_price_12 : decode cX0_price 12 = .ok (.aload_n 0, 1) := dk_42 (dk_at dksX0_price_0 12 rfl rfl)
theorem dX0_price_13 : decode cX0_price 13 = .ok (.getfield 32, 3) := dk_180 0 32 (dk_at dksX0_price_0 13 rfl rfl)
theorem dX0_price_16 : decode cX0_price 16 = .ok (.getfield 325, 3) := dk_180 1 69 (dk_at dksX0_price_0 16 rfl rfl)
theorem dX0_price_19 : decode cX0_price 19 = .ok (.istore_n 2, 1) := dk_61 (dk_at dksX0_price_0 19 rfl rfl)
theorem dX0_price_20 : decode cX0_price 20 = .ok (.iload_n 2, 1) := dk_28 (dk_at dksX0_price_0 20 rfl rfl)
theorem dX0_price_21 : decode cX0_price 21 = .ok (.iload_n 1, 1) := dk_27 (dk_at dksX0_price_0 21 rfl rfl)
theorem dX0_price_22 : decode cX0_price 22 = .ok (.if_icmp .ne 6, 3) := dk_160 0 6 (dk_at dksX0_price_1 0 rfl rfl)
theorem dX0_price_25 : decode cX0_price 25 = .ok (.bipush (-2), 2) := dk_16 254 (dk_at dksX0_price_1 3 rfl rfl)
theorem dX0_price_27 : decode cX0_price 27 = .ok (.ireturn, 1) := dk_172 (dk_at dksX0_price_1 5 rfl rfl)
theorem dX0_price_28 : decode cX0_price 28 = .ok (.aload_n 0, 1) := dk_42 (dk_at dksX0_price_1 6 rfl rfl)
theorem dX0_price_29 : decode cX0_price 29 = .ok (.getfield 32, 3) := dk_180 0 32 (dk_at dksX0_price_1 7 rfl rfl)
theorem dX0_price_32 : decode cX0_price 32 = .ok (.invokevirtual 86, 3) := dk_182 0 86 (dk_at dksX0_price_1 10 rfl rfl)
theorem dX0_price_35 : decode cX0_price 35 = .ok (.astore_n 3, 1) := dk_78 (dk_at dksX0_price_1 13 rfl rfl)
theorem dX0_price_36 : decode cX0_price 36 = .ok (.aload_n 0, 1) := dk_42 (dk_at dksX0_price_1 14 rfl rfl)
theorem dX0_price_37 : decode cX0_price 37 = .ok (.getfield 32, 3) := dk_180 0 32 (dk_at dksX0_price_1 15 rfl rfl)
theorem dX0_price_40 : decode cX0_price 40 = .ok (.iload_n 1, 1) := dk_27 (dk_at dksX0_price_1 18 rfl rfl)
theorem dX0_price_41 : decode cX0_price 41 = .ok (.putfield 325, 3) := dk_181 1 69 (dk_at dksX0_price_1 19 rfl rfl)
theorem dX0_price_44 : decode cX0_price 44 = .ok (.aload_n 0, 1) := dk_42 (dk_at dksX0_price_1 22 rfl rfl)
theorem dX0_price_45 : decode cX0_price 45 = .ok (.getfield 32, 3) := dk_180 0 32 (dk_at dksX0_price_2 0 rfl rfl)
theorem dX0_price_48 : decode cX0_price 48 = .ok (.bipush 11, 2) := dk_16 11 (dk_at dksX0_price_2 3 rfl rfl)
theorem dX0_price_50 : decode cX0_price 50 = .ok (.iload_n 1, 1) := dk_27 (dk_at dksX0_price_2 5 rfl rfl)
theorem dX0_price_51 : decode cX0_price 51 = .ok (.iload_n 2, 1) := dk_28 (dk_at dksX0_price_2 6 rfl rfl)
theorem dX0_price_52 : decode cX0_price 52 = .ok (.invokevirtual 200, 3) := dk_182 0 200 (dk_at dksX0_price_2 7 rfl rfl)
theorem dX0_price_55 : decode cX0_price 55 = .ok (.aload_n 0, 1) := dk_42 (dk_at dksX0_price_2 10 rfl rfl)
theorem dX0_price_56 : decode cX0_price 56 = .ok (.aload_n 3, 1) := dk_45 (dk_at dksX0_price_2 11 rfl rfl)
theorem dX0_price_57 : decode cX0_price 57 = .ok (.iload_n 2, 1) := dk_28 (dk_at dksX0_price_2 12 rfl rfl)
theorem dX0_price_58 : decode cX0_price 58 = .ok (.invokevirtual 93, 3) := dk_182 0 93 (dk_at dksX0_price_2 13 rfl rfl)
theorem dX0_price_61 : decode cX0_price 61 = .ok (.ireturn, 1) := dk_172 (dk_at dksX0_price_2 16 rfl rfl)
abbrev cX0_value : ByteArray := prog_1_method_43_code
def yX0_value : MethodName := ⟨RX0, "value", "(I)I"⟩
def dkwX0_value_8 : List UInt8 := [180, 1, 98, 182, 0, 92, 167, 0, 14, 42, 180, 0, 39, 182, 0, 59, 167, 0, 4, 2, 172]
abbrev dktX0_value_8 : List UInt8 := dkwX0_value_8 ++ []
def dkwX0_value_7 : List UInt8 := [167, 0, 44, 42, 180, 0, 32, 182, 1, 92, 167, 0, 34, 42, 182, 1, 95, 167, 0, 27, 42, 180, 0, 32]
abbrev dktX0_value_7 : List UInt8 := dkwX0_value_7 ++ dktX0_value_8
def dkwX0_value_6 : List UInt8 := [180, 0, 32, 180, 0, 97, 182, 0, 92, 167, 0, 58, 42, 182, 1, 86, 167, 0, 51, 42, 182, 1, 89]
abbrev dktX0_value_6 : List UInt8 := dkwX0_value_6 ++ dktX0_value_7
def dkwX0_value_5 : List UInt8 := [167, 0, 91, 42, 182, 1, 66, 167, 0, 84, 42, 180, 0, 32, 180, 0, 227, 182, 0, 92, 167, 0, 71, 42]
abbrev dktX0_value_5 : List UInt8 := dkwX0_value_5 ++ dktX0_value_6
def dkwX0_value_4 : List UInt8 := [182, 0, 92, 167, 0, 111, 42, 180, 0, 32, 180, 0, 89, 182, 0, 92, 167, 0, 98, 42, 182, 1, 83]
abbrev dktX0_value_4 : List UInt8 := dkwX0_value_4 ++ dktX0_value_5
def dkwX0_value_3 : List UInt8 := [180, 1, 69, 167, 0, 134, 42, 180, 0, 32, 180, 1, 0, 167, 0, 124, 42, 180, 0, 32, 180, 0, 7]
abbrev dktX0_value_3 : List UInt8 := dkwX0_value_3 ++ dktX0_value_4
def dkwX0_value_2 : List UInt8 := [42, 180, 0, 32, 180, 0, 100, 167, 0, 154, 42, 180, 0, 32, 180, 0, 103, 167, 0, 144, 42, 180, 0, 32]
abbrev dktX0_value_2 : List UInt8 := dkwX0_value_2 ++ dktX0_value_3
def dkwX0_value_1 : List UInt8 := [170, 0, 0, 0, 0, 0, 239, 0, 0, 0, 0, 0, 0, 0, 15, 0, 0, 0, 79, 0, 0, 0, 89, 0, 0, 0, 99, 0, 0, 0, 109, 0, 0, 0, 119, 0, 0, 0, 132, 0, 0, 0, 145, 0, 0, 0, 152, 0, 0, 0, 159, 0, 0, 0, 172, 0, 0, 0, 185, 0, 0, 0, 192, 0, 0, 0, 199, 0, 0, 0, 209, 0, 0, 0, 216, 0, 0, 0, 229]
abbrev dktX0_value_1 : List UInt8 := dkwX0_value_1 ++ dktX0_value_2
def dkwX0_value_0 : List UInt8 := [27]
abbrev dktX0_value_0 : List UInt8 := dkwX0_value_0 ++ dktX0_value_1
theorem dksX0_value_0 : cX0_value.data.toList.drop 0 = dktX0_value_0 := by decide +kernel
theorem dksX0_value_1 : cX0_value.data.toList.drop 1 = dktX0_value_1 := dk_seg dksX0_value_0 1 rfl rfl
theorem dksX0_value_2 : cX0_value.data.toList.drop 80 = dktX0_value_2 := dk_seg dksX0_value_1 79 rfl rfl
theorem dksX0_value_3 : cX0_value.data.toList.drop 104 = dktX0_value_3 := dk_seg dksX0_value_2 24 rfl rfl
theorem dksX0_value_4 : cX0_value.data.toList.drop 127 = dktX0_value_4 := dk_seg dksX0_value_3 23 rfl rfl
theorem dksX0_value_5 : cX0_value.data.toList.drop 150 = dktX0_value_5 := dk_seg dksX0_value_4 23 rfl rfl
theorem dksX0_value_6 : cX0_value.data.toList.drop 174 = dktX0_value_6 := dk_seg dksX0_value_5 24 rfl rfl
theorem dksX0_value_7 : cX0_value.data.toList.drop 197 = dktX0_value_7 := dk_seg dksX0_value_6 23 rfl rfl
theorem dksX0_value_8 : cX0_value.data.toList.drop 221 = dktX0_value_8 := dk_seg dksX0_value_7 24 rfl rfl
theorem dX0_value_0 : decode cX0_value 0 = .ok (.iload_n 1, 1) := dk_27 (dk_at dksX0_value_0 0 rfl rfl)
theorem dX0_value_1 : decode cX0_value 1 = .ok (.tableswitch 239 0 15 #[79, 89, 99, 109, 119, 132, 145, 152, 159, 172, 185, 192, 199, 209, 216, 229], 79) := by decide +kernel
theorem dX0_value_80 : decode cX0_value 80 = .ok (.aload_n 0, 1) := dk_42 (dk_at dksX0_value_2 0 rfl rfl)
theorem dX0_value_81 : decode cX0_value 81 = .ok (.getfield 32, 3) := dk_180 0 32 (dk_at dksX0_value_2 1 rfl rfl)
theorem dX0_value_84 : decode cX0_value 84 = .ok (.getfield 100, 3) := dk_180 0 100 (dk_at dksX0_value_2 4 rfl rfl)
theorem dX0_value_87 : decode cX0_value 87 = .ok (.goto 154, 3) := dk_167 0 154 (dk_at dksX0_value_2 7 rfl rfl)
theorem dX0_value_90 : decode cX0_value 90 = .ok (.aload_n 0, 1) := dk_42 (dk_at dksX0_value_2 10 rfl rfl)
theorem dX0_value_91 : decode cX0_value 91 = .ok (.getfield 32, 3) := dk_180 0 32 (dk_at dksX0_value_2 11 rfl rfl)
theorem dX0_value_94 : decode cX0_value 94 = .ok (.getfield 103, 3) := dk_180 0 103 (dk_at dksX0_value_2 14 rfl rfl)
theorem dX0_value_97 : decode cX0_value 97 = .ok (.goto 144, 3) := dk_167 0 144 (dk_at dksX0_value_2 17 rfl rfl)
theorem dX0_value_100 : decode cX0_value 100 = .ok (.aload_n 0, 1) := dk_42 (dk_at dksX0_value_2 20 rfl rfl)
theorem dX0_value_101 : decode cX0_value 101 = .ok (.getfield 32, 3) := dk_180 0 32 (dk_at dksX0_value_2 21 rfl rfl)
theorem dX0_value_104 : decode cX0_value 104 = .ok (.getfield 325, 3) := dk_180 1 69 (dk_at dksX0_value_3 0 rfl rfl)
theorem dX0_value_107 : decode cX0_value 107 = .ok (.goto 134, 3) := dk_167 0 134 (dk_at dksX0_value_3 3 rfl rfl)
theorem dX0_value_110 : decode cX0_value 110 = .ok (.aload_n 0, 1) := dk_42 (dk_at dksX0_value_3 6 rfl rfl)
theorem dX0_value_111 : decode cX0_value 111 = .ok (.getfield 32, 3) := dk_180 0 32 (dk_at dksX0_value_3 7 rfl rfl)
theorem dX0_value_114 : decode cX0_value 114 = .ok (.getfield 256, 3) := dk_180 1 0 (dk_at dksX0_value_3 10 rfl rfl)
theorem dX0_value_117 : decode cX0_value 117 = .ok (.goto 124, 3) := dk_167 0 124 (dk_at dksX0_value_3 13 rfl rfl)
theorem dX0_value_120 : decode cX0_value 120 = .ok (.aload_n 0, 1) := dk_42 (dk_at dksX0_value_3 16 rfl rfl)
theorem dX0_value_121 : decode cX0_value 121 = .ok (.getfield 32, 3) := dk_180 0 32 (dk_at dksX0_value_3 17 rfl rfl)
theorem dX0_value_124 : decode cX0_value 124 = .ok (.getfield 7, 3) := dk_180 0 7 (dk_at dksX0_value_3 20 rfl rfl)
theorem dX0_value_127 : decode cX0_value 127 = .ok (.invokevirtual 92, 3) := dk_182 0 92 (dk_at dksX0_value_4 0 rfl rfl)
theorem dX0_value_130 : decode cX0_value 130 = .ok (.goto 111, 3) := dk_167 0 111 (dk_at dksX0_value_4 3 rfl rfl)
theorem dX0_value_133 : decode cX0_value 133 = .ok (.aload_n 0, 1) := dk_42 (dk_at dksX0_value_4 6 rfl rfl)
theorem dX0_value_134 : decode cX0_value 134 = .ok (.getfield 32, 3) := dk_180 0 32 (dk_at dksX0_value_4 7 rfl rfl)
theorem dX0_value_137 : decode cX0_value 137 = .ok (.getfield 89, 3) := dk_180 0 89 (dk_at dksX0_value_4 10 rfl rfl)
theorem dX0_value_140 : decode cX0_value 140 = .ok (.invokevirtual 92, 3) := dk_182 0 92 (dk_at dksX0_value_4 13 rfl rfl)
theorem dX0_value_143 : decode cX0_value 143 = .ok (.goto 98, 3) := dk_167 0 98 (dk_at dksX0_value_4 16 rfl rfl)
theorem dX0_value_146 : decode cX0_value 146 = .ok (.aload_n 0, 1) := dk_42 (dk_at dksX0_value_4 19 rfl rfl)
theorem dX0_value_147 : decode cX0_value 147 = .ok (.invokevirtual 339, 3) := dk_182 1 83 (dk_at dksX0_value_4 20 rfl rfl)
theorem dX0_value_150 : decode cX0_value 150 = .ok (.goto 91, 3) := dk_167 0 91 (dk_at dksX0_value_5 0 rfl rfl)
theorem dX0_value_153 : decode cX0_value 153 = .ok (.aload_n 0, 1) := dk_42 (dk_at dksX0_value_5 3 rfl rfl)
theorem dX0_value_154 : decode cX0_value 154 = .ok (.invokevirtual 322, 3) := dk_182 1 66 (dk_at dksX0_value_5 4 rfl rfl)
theorem dX0_value_157 : decode cX0_value 157 = .ok (.goto 84, 3) := dk_167 0 84 (dk_at dksX0_value_5 7 rfl rfl)
theorem dX0_value_160 : decode cX0_value 160 = .ok (.aload_n 0, 1) := dk_42 (dk_at dksX0_value_5 10 rfl rfl)
theorem dX0_value_161 : decode cX0_value 161 = .ok (.getfield 32, 3) := dk_180 0 32 (dk_at dksX0_value_5 11 rfl rfl)
theorem dX0_value_164 : decode cX0_value 164 = .ok (.getfield 227, 3) := dk_180 0 227 (dk_at dksX0_value_5 14 rfl rfl)
theorem dX0_value_167 : decode cX0_value 167 = .ok (.invokevirtual 92, 3) := dk_182 0 92 (dk_at dksX0_value_5 17 rfl rfl)
theorem dX0_value_170 : decode cX0_value 170 = .ok (.goto 71, 3) := dk_167 0 71 (dk_at dksX0_value_5 20 rfl rfl)
theorem dX0_value_173 : decode cX0_value 173 = .ok (.aload_n 0, 1) := dk_42 (dk_at dksX0_value_5 23 rfl rfl)
theorem dX0_value_174 : decode cX0_value 174 = .ok (.getfield 32, 3) := dk_180 0 32 (dk_at dksX0_value_6 0 rfl rfl)
theorem dX0_value_177 : decode cX0_value 177 = .ok (.getfield 97, 3) := dk_180 0 97 (dk_at dksX0_value_6 3 rfl rfl)
theorem dX0_value_180 : decode cX0_value 180 = .ok (.invokevirtual 92, 3) := dk_182 0 92 (dk_at dksX0_value_6 6 rfl rfl)
theorem dX0_value_183 : decode cX0_value 183 = .ok (.goto 58, 3) := dk_167 0 58 (dk_at dksX0_value_6 9 rfl rfl)
theorem dX0_value_186 : decode cX0_value 186 = .ok (.aload_n 0, 1) := dk_42 (dk_at dksX0_value_6 12 rfl rfl)
theorem dX0_value_187 : decode cX0_value 187 = .ok (.invokevirtual 342, 3) := dk_182 1 86 (dk_at dksX0_value_6 13 rfl rfl)
theorem dX0_value_190 : decode cX0_value 190 = .ok (.goto 51, 3) := dk_167 0 51 (dk_at dksX0_value_6 16 rfl rfl)
theorem dX0_value_193 : decode cX0_value 193 = .ok (.aload_n 0, 1) := dk_42 (dk_at dksX0_value_6 19 rfl rfl)
theorem dX0_value_194 : decode cX0_value 194 = .ok (.invokevirtual 345, 3) := dk_182 1 89 (dk_at dksX0_value_6 20 rfl rfl)
theorem dX0_value_197 : decode cX0_value 197 = .ok (.goto 44, 3) := dk_167 0 44 (dk_at dksX0_value_7 0 rfl rfl)
theorem dX0_value_200 : decode cX0_value 200 = .ok (.aload_n 0, 1) := dk_42 (dk_at dksX0_value_7 3 rfl rfl)
theorem dX0_value_201 : decode cX0_value 201 = .ok (.getfield 32, 3) := dk_180 0 32 (dk_at dksX0_value_7 4 rfl rfl)
theorem dX0_value_204 : decode cX0_value 204 = .ok (.invokevirtual 348, 3) := dk_182 1 92 (dk_at dksX0_value_7 7 rfl rfl)
theorem dX0_value_207 : decode cX0_value 207 = .ok (.goto 34, 3) := dk_167 0 34 (dk_at dksX0_value_7 10 rfl rfl)
theorem dX0_value_210 : decode cX0_value 210 = .ok (.aload_n 0, 1) := dk_42 (dk_at dksX0_value_7 13 rfl rfl)
theorem dX0_value_211 : decode cX0_value 211 = .ok (.invokevirtual 351, 3) := dk_182 1 95 (dk_at dksX0_value_7 14 rfl rfl)
theorem dX0_value_214 : decode cX0_value 214 = .ok (.goto 27, 3) := dk_167 0 27 (dk_at dksX0_value_7 17 rfl rfl)
theorem dX0_value_217 : decode cX0_value 217 = .ok (.aload_n 0, 1) := dk_42 (dk_at dksX0_value_7 20 rfl rfl)
theorem dX0_value_218 : decode cX0_value 218 = .ok (.getfield 32, 3) := dk_180 0 32 (dk_at dksX0_value_7 21 rfl rfl)
theorem dX0_value_221 : decode cX0_value 221 = .ok (.getfield 354, 3) := dk_180 1 98 (dk_at dksX0_value_8 0 rfl rfl)
theorem dX0_value_224 : decode cX0_value 224 = .ok (.invokevirtual 92, 3) := dk_182 0 92 (dk_at dksX0_value_8 3 rfl rfl)
theorem dX0_value_227 : decode cX0_value 227 = .ok (.goto 14, 3) := dk_167 0 14 (dk_at dksX0_value_8 6 rfl rfl)
theorem dX0_value_230 : decode cX0_value 230 = .ok (.aload_n 0, 1) := dk_42 (dk_at dksX0_value_8 9 rfl rfl)
theorem dX0_value_231 : decode cX0_value 231 = .ok (.getfield 39, 3) := dk_180 0 39 (dk_at dksX0_value_8 10 rfl rfl)
theorem dX0_value_234 : decode cX0_value 234 = .ok (.invokevirtual 59, 3) := dk_182 0 59 (dk_at dksX0_value_8 13 rfl rfl)
theorem dX0_value_237 : decode cX0_value 237 = .ok (.goto 4, 3) := dk_167 0 4 (dk_at dksX0_value_8 16 rfl rfl)
theorem dX0_value_240 : decode cX0_value 240 = .ok (.iconst (-1), 1) := dk_2 (dk_at dksX0_value_8 19 rfl rfl)
theorem dX0_value_241 : decode cX0_value 241 = .ok (.ireturn, 1) := dk_172 (dk_at dksX0_value_8 20 rfl rfl)
abbrev cX0_live : ByteArray := prog_1_method_37_code
def yX0_live : MethodName := ⟨RX0, "live", "()I"⟩
def dkwX0_live_1 : List UInt8 := [182, 0, 116, 182, 1, 59, 153, 0, 7, 4, 167, 0, 4, 3, 96, 60, 132, 2, 1, 167, 255, 217, 27, 172]
abbrev dktX0_live_1 : List UInt8 := dkwX0_live_1 ++ []
def dkwX0_live_0 : List UInt8 := [3, 60, 3, 61, 28, 42, 180, 0, 32, 180, 0, 89, 182, 0, 92, 162, 0, 31, 27, 42, 180, 0, 32, 28]
abbrev dktX0_live_0 : List UInt8 := dkwX0_live_0 ++ dktX0_live_1
theorem dksX0_live_0 : cX0_live.data.toList.drop 0 = dktX0_live_0 := by decide +kernel
theorem dksX0_live_1 : cX0_live.data.toList.drop 24 = dktX0_live_1 := dk_seg dksX0_live_0 24 rfl rfl
theorem dX0_live_0 : decode cX0_live 0 = .ok (.iconst 0, 1) := dk_3 (dk_at dksX0_live_0 0 rfl rfl)
theorem dX0_live_1 : decode cX0_live 1 = .ok (.istore_n 1, 1) := dk_60 (dk_at dksX0_live_0 1 rfl rfl)
theorem dX0_live_2 : decode cX0_live 2 = .ok (.iconst 0, 1) := dk_3 (dk_at dksX0_live_0 2 rfl rfl)
theorem dX0_live_3 : decode cX0_live 3 = .ok (.istore_n 2, 1) := dk_61 (dk_at dksX0_live_0 3 rfl rfl)
theorem dX0_live_4 : decode cX0_live 4 = .ok (.iload_n 2, 1) := dk_28 (dk_at dksX0_live_0 4 rfl rfl)
theorem dX0_live_5 : decode cX0_live 5 = .ok (.aload_n 0, 1) := dk_42 (dk_at dksX0_live_0 5 rfl rfl)
theorem dX0_live_6 : decode cX0_live 6 = .ok (.getfield 32, 3) := dk_180 0 32 (dk_at dksX0_live_0 6 rfl rfl)
theorem dX0_live_9 : decode cX0_live 9 = .ok (.getfield 89, 3) := dk_180 0 89 (dk_at dksX0_live_0 9 rfl rfl)
theorem dX0_live_12 : decode cX0_live 12 = .ok (.invokevirtual 92, 3) := dk_182 0 92 (dk_at dksX0_live_0 12 rfl rfl)
theorem dX0_live_15 : decode cX0_live 15 = .ok (.if_icmp .ge 31, 3) := dk_162 0 31 (dk_at dksX0_live_0 15 rfl rfl)
theorem dX0_live_18 : decode cX0_live 18 = .ok (.iload_n 1, 1) := dk_27 (dk_at dksX0_live_0 18 rfl rfl)
theorem dX0_live_19 : decode cX0_live 19 = .ok (.aload_n 0, 1) := dk_42 (dk_at dksX0_live_0 19 rfl rfl)
theorem dX0_live_20 : decode cX0_live 20 = .ok (.getfield 32, 3) := dk_180 0 32 (dk_at dksX0_live_0 20 rfl rfl)
theorem dX0_live_23 : decode cX0_live 23 = .ok (.iload_n 2, 1) := dk_28 (dk_at dksX0_live_0 23 rfl rfl)
theorem dX0_live_24 : decode cX0_live 24 = .ok (.invokevirtual 116, 3) := dk_182 0 116 (dk_at dksX0_live_1 0 rfl rfl)
theorem dX0_live_27 : decode cX0_live 27 = .ok (.invokevirtual 315, 3) := dk_182 1 59 (dk_at dksX0_live_1 3 rfl rfl)
theorem dX0_live_30 : decode cX0_live 30 = .ok (.ifCond .eq 7, 3) := dk_153 0 7 (dk_at dksX0_live_1 6 rfl rfl)
theorem dX0_live_33 : decode cX0_live 33 = .ok (.iconst 1, 1) := dk_4 (dk_at dksX0_live_1 9 rfl rfl)
theorem dX0_live_34 : decode cX0_live 34 = .ok (.goto 4, 3) := dk_167 0 4 (dk_at dksX0_live_1 10 rfl rfl)
theorem dX0_live_37 : decode cX0_live 37 = .ok (.iconst 0, 1) := dk_3 (dk_at dksX0_live_1 13 rfl rfl)
theorem dX0_live_38 : decode cX0_live 38 = .ok (.iadd, 1) := dk_96 (dk_at dksX0_live_1 14 rfl rfl)
theorem dX0_live_39 : decode cX0_live 39 = .ok (.istore_n 1, 1) := dk_60 (dk_at dksX0_live_1 15 rfl rfl)
theorem dX0_live_40 : decode cX0_live 40 = .ok (.iinc 2 1, 3) := dk_132 2 1 (dk_at dksX0_live_1 16 rfl rfl)
theorem dX0_live_43 : decode cX0_live 43 = .ok (.goto (-39), 3) := dk_167 255 217 (dk_at dksX0_live_1 19 rfl rfl)
theorem dX0_live_46 : decode cX0_live 46 = .ok (.iload_n 1, 1) := dk_27 (dk_at dksX0_live_1 22 rfl rfl)
theorem dX0_live_47 : decode cX0_live 47 = .ok (.ireturn, 1) := dk_172 (dk_at dksX0_live_1 23 rfl rfl)
abbrev cX0_open : ByteArray := prog_1_method_38_code
def yX0_open : MethodName := ⟨RX0, "open", "()I"⟩
def dkwX0_open_1 : List UInt8 := [182, 1, 24, 182, 1, 71, 153, 0, 7, 3, 167, 0, 4, 4, 96, 60, 132, 2, 1, 167, 255, 217, 27, 172]
abbrev dktX0_open_1 : List UInt8 := dkwX0_open_1 ++ []
def dkwX0_open_0 : List UInt8 := [3, 60, 3, 61, 28, 42, 180, 0, 32, 180, 0, 97, 182, 0, 92, 162, 0, 31, 27, 42, 180, 0, 32, 28]
abbrev dktX0_open_0 : List UInt8 := dkwX0_open_0 ++ dktX0_open_1
theorem dksX0_open_0 : cX0_open.data.toList.drop 0 = dktX0_open_0 := by decide +kernel
theorem dksX0_open_1 : cX0_open.data.toList.drop 24 = dktX0_open_1 := dk_seg dksX0_open_0 24 rfl rfl
theorem dX0_open_0 : decode cX0_open 0 = .ok (.iconst 0, 1) := dk_3 (dk_at dksX0_open_0 0 rfl rfl)
theorem dX0_open_1 : decode cX0_open 1 = .ok (.istore_n 1, 1) := dk_60 (dk_at dksX0_open_0 1 rfl rfl)
theorem dX0_open_2 : decode cX0_open 2 = .ok (.iconst 0, 1) := dk_3 (dk_at dksX0_open_0 2 rfl rfl)
theorem dX0_open_3 : decode cX0_open 3 = .ok (.istore_n 2, 1) := dk_61 (dk_at dksX0_open_0 3 rfl rfl)
theorem dX0_open_4 : decode cX0_open 4 = .ok (.iload_n 2, 1) := dk_28 (dk_at dksX0_open_0 4 rfl rfl)
theorem dX0_open_5 : decode cX0_open 5 = .ok (.aload_n 0, 1) := dk_42 (dk_at dksX0_open_0 5 rfl rfl)
theorem dX0_open_6 : decode cX0_open 6 = .ok (.getfield 32, 3) := dk_180 0 32 (dk_at dksX0_open_0 6 rfl rfl)
theorem dX0_open_9 : decode cX0_open 9 = .ok (.getfield 97, 3) := dk_180 0 97 (dk_at dksX0_open_0 9 rfl rfl)
theorem dX0_open_12 : decode cX0_open 12 = .ok (.invokevirtual 92, 3) := dk_182 0 92 (dk_at dksX0_open_0 12 rfl rfl)
theorem dX0_open_15 : decode cX0_open 15 = .ok (.if_icmp .ge 31, 3) := dk_162 0 31 (dk_at dksX0_open_0 15 rfl rfl)
theorem dX0_open_18 : decode cX0_open 18 = .ok (.iload_n 1, 1) := dk_27 (dk_at dksX0_open_0 18 rfl rfl)
theorem dX0_open_19 : decode cX0_open 19 = .ok (.aload_n 0, 1) := dk_42 (dk_at dksX0_open_0 19 rfl rfl)
theorem dX0_open_20 : decode cX0_open 20 = .ok (.getfield 32, 3) := dk_180 0 32 (dk_at dksX0_open_0 20 rfl rfl)
theorem dX0_open_23 : decode cX0_open 23 = .ok (.iload_n 2, 1) := dk_28 (dk_at dksX0_open_0 23 rfl rfl)
theorem dX0_open_24 : decode cX0_open 24 = .ok (.invokevirtual 280, 3) := dk_182 1 24 (dk_at dksX0_open_1 0 rfl rfl)
theorem dX0_open_27 : decode cX0_open 27 = .ok (.invokevirtual 327, 3) := dk_182 1 71 (dk_at dksX0_open_1 3 rfl rfl)
theorem dX0_open_30 : decode cX0_open 30 = .ok (.ifCond .eq 7, 3) := dk_153 0 7 (dk_at dksX0_open_1 6 rfl rfl)
theorem dX0_open_33 : decode cX0_open 33 = .ok (.iconst 0, 1) := dk_3 (dk_at dksX0_open_1 9 rfl rfl)
theorem dX0_open_34 : decode cX0_open 34 = .ok (.goto 4, 3) := dk_167 0 4 (dk_at dksX0_open_1 10 rfl rfl)
theorem dX0_open_37 : decode cX0_open 37 = .ok (.iconst 1, 1) := dk_4 (dk_at dksX0_open_1 13 rfl rfl)
theorem dX0_open_38 : decode cX0_open 38 = .ok (.iadd, 1) := dk_96 (dk_at dksX0_open_1 14 rfl rfl)
theorem dX0_open_39 : decode cX0_open 39 = .ok (.istore_n 1, 1) := dk_60 (dk_at dksX0_open_1 15 rfl rfl)
theorem dX0_open_40 : decode cX0_open 40 = .ok (.iinc 2 1, 3) := dk_132 2 1 (dk_at dksX0_open_1 16 rfl rfl)
theorem dX0_open_43 : decode cX0_open 43 = .ok (.goto (-39), 3) := dk_167 255 217 (dk_at dksX0_open_1 19 rfl rfl)
theorem dX0_open_46 : decode cX0_open 46 = .ok (.iload_n 1, 1) := dk_27 (dk_at dksX0_open_1 22 rfl rfl)
theorem dX0_open_47 : decode cX0_open 47 = .ok (.ireturn, 1) := dk_172 (dk_at dksX0_open_1 23 rfl rfl)
abbrev cX0_allAmounts : ByteArray := prog_1_method_39_code
def yX0_allAmounts : MethodName := ⟨RX0, "allAmounts", "()I"⟩
def dkwX0_allAmounts_2 : List UInt8 := [167, 0, 4, 3, 96, 60, 132, 2, 1, 167, 255, 204, 27, 172]
abbrev dktX0_allAmounts_2 : List UInt8 := dkwX0_allAmounts_2 ++ []
def dkwX0_allAmounts_1 : List UInt8 := [182, 1, 24, 58, 4, 25, 4, 193, 0, 254, 153, 0, 16, 25, 4, 192, 0, 254, 78, 45, 180, 1, 31]
abbrev dktX0_allAmounts_1 : List UInt8 := dkwX0_allAmounts_1 ++ dktX0_allAmounts_2
def dkwX0_allAmounts_0 : List UInt8 := [3, 60, 3, 61, 28, 42, 180, 0, 32, 180, 0, 97, 182, 0, 92, 162, 0, 44, 27, 42, 180, 0, 32, 28]
abbrev dktX0_allAmounts_0 : List UInt8 := dkwX0_allAmounts_0 ++ dktX0_allAmounts_1
theorem dksX0_allAmounts_0 : cX0_allAmounts.data.toList.drop 0 = dktX0_allAmounts_0 := by decide +kernel
theorem dksX0_allAmounts_1 : cX0_allAmounts.data.toList.drop 24 = dktX0_allAmounts_1 := dk_seg dksX0_allAmounts_0 24 rfl rfl
theorem dksX0_allAmounts_2 : cX0_allAmounts.data.toList.drop 47 = dktX0_allAmounts_2 := dk_seg dksX0_allAmounts_1 23 rfl rfl
theorem dX0_allAmounts_0 : decode cX0_allAmounts 0 = .ok (.iconst 0, 1) := dk_3 (dk_at dksX0_allAmounts_0 0 rfl rfl)
theorem dX0_allAmounts_1 : decode cX0_allAmounts 1 = .ok (.istore_n 1, 1) := dk_60 (dk_at dksX0_allAmounts_0 1 rfl rfl)
theorem dX0_allAmounts_2 : decode cX0_allAmounts 2 = .ok (.iconst 0, 1) := dk_3 (dk_at dksX0_allAmounts_0 2 rfl rfl)
theorem dX0_allAmounts_3 : decode cX0_allAmounts 3 = .ok (.istore_n 2, 1) := dk_61 (dk_at dksX0_allAmounts_0 3 rfl rfl)
theorem dX0_allAmounts_4 : decode cX0_allAmounts 4 = .ok (.iload_n 2, 1) := dk_28 (dk_at dksX0_allAmounts_0 4 rfl rfl)
theorem dX0_allAmounts_5 : decode cX0_allAmounts 5 = .ok (.aload_n 0, 1) := dk_42 (dk_at dksX0_allAmounts_0 5 rfl rfl)
theorem dX0_allAmounts_6 : decode cX0_allAmounts 6 = .ok (.getfield 32, 3) := dk_180 0 32 (dk_at dksX0_allAmounts_0 6 rfl rfl)
theorem dX0_allAmounts_9 : decode cX0_allAmounts 9 = .ok (.getfield 97, 3) := dk_180 0 97 (dk_at dksX0_allAmounts_0 9 rfl rfl)
theorem dX0_allAmounts_12 : decode cX0_allAmounts 12 = .ok (.invokevirtual 92, 3) := dk_182 0 92 (dk_at dksX0_allAmounts_0 12 rfl rfl)
theorem dX0_allAmounts_15 : decode cX0_allAmounts 15 = .ok (.if_icmp .ge 44, 3) := dk_162 0 44 (dk_at dksX0_allAmounts_0 15 rfl rfl)
theorem dX0_allAmounts_18 : decode cX0_allAmounts 18 = .ok (.iload_n 1, 1) := dk_27 (dk_at dksX0_allAmounts_0 18 rfl rfl)
theorem dX0_allAmounts_19 : decode cX0_allAmounts 19 = .ok (.aload_n 0, 1) := dk_42 (dk_at dksX0_allAmounts_0 19 rfl rfl)
theorem dX0_allAmounts_20 : decode cX0_allAmounts 20 = .ok (.getfield 32, 3) := dk_180 0 32 (dk_at dksX0_allAmounts_0 20 rfl rfl)
theorem dX0_allAmounts_23 : decode cX0_allAmounts 23 = .ok (.iload_n 2, 1) := dk_28 (dk_at dksX0_allAmounts_0 23 rfl rfl)
theorem dX0_allAmounts_24 : decode cX0_allAmounts 24 = .ok (.invokevirtual 280, 3) := dk_182 1 24 (dk_at dksX0_allAmounts_1 0 rfl rfl)
theorem dX0_allAmounts_27 : decode cX0_allAmounts 27 = .ok (.astore 4, 2) := dk_58 4 (dk_at dksX0_allAmounts_1 3 rfl rfl)
theorem dX0_allAmounts_29 : decode cX0_allAmounts 29 = .ok (.aload 4, 2) := dk_25 4 (dk_at dksX0_allAmounts_1 5 rfl rfl)
theorem dX0_allAmounts_31 : decode cX0_allAmounts 31 = .ok (.instanceof 254, 3) := dk_193 0 254 (dk_at dksX0_allAmounts_1 7 rfl rfl)
theorem dX0_allAmounts_34 : decode cX0_allAmounts 34 = .ok (.ifCond .eq 16, 3) := dk_153 0 16 (dk_at dksX0_allAmounts_1 10 rfl rfl)
theorem dX0_allAmounts_37 : decode cX0_allAmounts 37 = .ok (.aload 4, 2) := dk_25 4 (dk_at dksX0_allAmounts_1 13 rfl rfl)
theorem dX0_allAmounts_39 : decode cX0_allAmounts 39 = .ok (.checkcast 254, 3) := dk_192 0 254 (dk_at dksX0_allAmounts_1 15 rfl rfl)
theorem dX0_allAmounts_42 : decode cX0_allAmounts 42 = .ok (.astore_n 3, 1) := dk_78 (dk_at dksX0_allAmounts_1 18 rfl rfl)
theorem dX0_allAmounts_43 : decode cX0_allAmounts 43 = .ok (.aload_n 3, 1) := dk_45 (dk_at dksX0_allAmounts_1 19 rfl rfl)
theorem dX0_allAmounts_44 : decode cX0_allAmounts 44 = .ok (.getfield 287, 3) := dk_180 1 31 (dk_at dksX0_allAmounts_1 20 rfl rfl)
theorem dX0_allAmounts_47 : decode cX0_allAmounts 47 = .ok (.goto 4, 3) := dk_167 0 4 (dk_at dksX0_allAmounts_2 0 rfl rfl)
theorem dX0_allAmounts_50 : decode cX0_allAmounts 50 = .ok (.iconst 0, 1) := dk_3 (dk_at dksX0_allAmounts_2 3 rfl rfl)
theorem dX0_allAmounts_51 : decode cX0_allAmounts 51 = .ok (.iadd, 1) := dk_96 (dk_at dksX0_allAmounts_2 4 rfl rfl)
theorem dX0_allAmounts_52 : decode cX0_allAmounts 52 = .ok (.istore_n 1, 1) := dk_60 (dk_at dksX0_allAmounts_2 5 rfl rfl)
theorem dX0_allAmounts_53 : decode cX0_allAmounts 53 = .ok (.iinc 2 1, 3) := dk_132 2 1 (dk_at dksX0_allAmounts_2 6 rfl rfl)
theorem dX0_allAmounts_56 : decode cX0_allAmounts 56 = .ok (.goto (-52), 3) := dk_167 255 204 (dk_at dksX0_allAmounts_2 9 rfl rfl)
theorem dX0_allAmounts_59 : decode cX0_allAmounts 59 = .ok (.iload_n 1, 1) := dk_27 (dk_at dksX0_allAmounts_2 12 rfl rfl)
theorem dX0_allAmounts_60 : decode cX0_allAmounts 60 = .ok (.ireturn, 1) := dk_172 (dk_at dksX0_allAmounts_2 13 rfl rfl)
abbrev cX0_pairs : ByteArray := prog_1_method_42_code
def yX0_pairs : MethodName := ⟨RX0, "pairs", "()I"⟩
def dkwX0_pairs_2 : List UInt8 := [167, 255, 213, 27, 5, 108, 172]
abbrev dktX0_pairs_2 : List UInt8 := dkwX0_pairs_2 ++ []
def dkwX0_pairs_1 : List UInt8 := [182, 0, 116, 182, 1, 59, 153, 0, 11, 42, 28, 182, 1, 79, 167, 0, 4, 3, 96, 60, 132, 2, 1]
abbrev dktX0_pairs_1 : List UInt8 := dkwX0_pairs_1 ++ dktX0_pairs_2
def dkwX0_pairs_0 : List UInt8 := [3, 60, 3, 61, 28, 42, 180, 0, 32, 180, 0, 89, 182, 0, 92, 162, 0, 35, 27, 42, 180, 0, 32, 28]
abbrev dktX0_pairs_0 : List UInt8 := dkwX0_pairs_0 ++ dktX0_pairs_1
theorem dksX0_pairs_0 : cX0_pairs.data.toList.drop 0 = dktX0_pairs_0 := by decide +kernel
theorem dksX0_pairs_1 : cX0_pairs.data.toList.drop 24 = dktX0_pairs_1 := dk_seg dksX0_pairs_0 24 rfl rfl
theorem dksX0_pairs_2 : cX0_pairs.data.toList.drop 47 = dktX0_pairs_2 := dk_seg dksX0_pairs_1 23 rfl rfl
theorem dX0_pairs_0 : decode cX0_pairs 0 = .ok (.iconst 0, 1) := dk_3 (dk_at dksX0_pairs_0 0 rfl rfl)
theorem dX0_pairs_1 : decode cX0_pairs 1 = .ok (.istore_n 1, 1) := dk_60 (dk_at dksX0_pairs_0 1 rfl rfl)
theorem dX0_pairs_2 : decode cX0_pairs 2 = .ok (.iconst 0, 1) := dk_3 (dk_at dksX0_pairs_0 2 rfl rfl)
theorem dX0_pairs_3 : decode cX0_pairs 3 = .ok (.istore_n 2, 1) := dk_61 (dk_at dksX0_pairs_0 3 rfl rfl)
theorem dX0_pairs_4 : decode cX0_pairs 4 = .ok (.iload_n 2, 1) := dk_28 (dk_at dksX0_pairs_0 4 rfl rfl)
theorem dX0_pairs_5 : decode cX0_pairs 5 = .ok (.aload_n 0, 1) := dk_42 (dk_at dksX0_pairs_0 5 rfl rfl)
theorem dX0_pairs_6 : decode cX0_pairs 6 = .ok (.getfield 32, 3) := dk_180 0 32 (dk_at dksX0_pairs_0 6 rfl rfl)
theorem dX0_pairs_9 : decode cX0_pairs 9 = .ok (.getfield 89, 3) := dk_180 0 89 (dk_at dksX0_pairs_0 9 rfl rfl)
theorem dX0_pairs_12 : decode cX0_pairs 12 = .ok (.invokevirtual 92, 3) := dk_182 0 92 (dk_at dksX0_pairs_0 12 rfl rfl)
theorem dX0_pairs_15 : decode cX0_pairs 15 = .ok (.if_icmp .ge 35, 3) := dk_162 0 35 (dk_at dksX0_pairs_0 15 rfl rfl)
theorem dX0_pairs_18 : decode cX0_pairs 18 = .ok (.iload_n 1, 1) := dk_27 (dk_at dksX0_pairs_0 18 rfl rfl)
theorem dX0_pairs_19 : decode cX0_pairs 19 = .ok (.aload_n 0, 1) := dk_42 (dk_at dksX0_pairs_0 19 rfl rfl)
theorem dX0_pairs_20 : decode cX0_pairs 20 = .ok (.getfield 32, 3) := dk_180 0 32 (dk_at dksX0_pairs_0 20 rfl rfl)
theorem dX0_pairs_23 : decode cX0_pairs 23 = .ok (.iload_n 2, 1) := dk_28 (dk_at dksX0_pairs_0 23 rfl rfl)
theorem dX0_pairs_24 : decode cX0_pairs 24 = .ok (.invokevirtual 116, 3) := dk_182 0 116 (dk_at dksX0_pairs_1 0 rfl rfl)
theorem dX0_pairs_27 : decode cX0_pairs 27 = .ok (.invokevirtual 315, 3) := dk_182 1 59 (dk_at dksX0_pairs_1 3 rfl rfl)
theorem dX0_pairs_30 : decode cX0_pairs 30 = .ok (.ifCond .eq 11, 3) := dk_153 0 11 (dk_at dksX0_pairs_1 6 rfl rfl)
theorem dX0_pairs_33 : decode cX0_pairs 33 = .ok (.aload_n 0, 1) := dk_42 (dk_at dksX0_pairs_1 9 rfl rfl)
theorem dX0_pairs_34 : decode cX0_pairs 34 = .ok (.iload_n 2, 1) := dk_28 (dk_at dksX0_pairs_1 10 rfl rfl)
theorem dX0_pairs_35 : decode cX0_pairs 35 = .ok (.invokevirtual 335, 3) := dk_182 1 79 (dk_at dksX0_pairs_1 11 rfl rfl)
theorem dX0_pairs_38 : decode cX0_pairs 38 = .ok (.goto 4, 3) := dk_167 0 4 (dk_at dksX0_pairs_1 14 rfl rfl)
theorem dX0_pairs_41 : decode cX0_pairs 41 = .ok (.iconst 0, 1) := dk_3 (dk_at dksX0_pairs_1 17 rfl rfl)
theorem dX0_pairs_42 : decode cX0_pairs 42 = .ok (.iadd, 1) := dk_96 (dk_at dksX0_pairs_1 18 rfl rfl)
theorem dX0_pairs_43 : decode cX0_pairs 43 = .ok (.istore_n 1, 1) := dk_60 (dk_at dksX0_pairs_1 19 rfl rfl)
theorem dX0_pairs_44 : decode cX0_pairs 44 = .ok (.iinc 2 1, 3) := dk_132 2 1 (dk_at dksX0_pairs_1 20 rfl rfl)
theorem dX0_pairs_47 : decode cX0_pairs 47 = .ok (.goto (-43), 3) := dk_167 255 213 (dk_at dksX0_pairs_2 0 rfl rfl)
theorem dX0_pairs_50 : decode cX0_pairs 50 = .ok (.iload_n 1, 1) := dk_27 (dk_at dksX0_pairs_2 3 rfl rfl)
theorem dX0_pairs_51 : decode cX0_pairs 51 = .ok (.iconst 2, 1) := dk_5 (dk_at dksX0_pairs_2 4 rfl rfl)
theorem dX0_pairs_52 : decode cX0_pairs 52 = .ok (.idiv, 1) := dk_108 (dk_at dksX0_pairs_2 5 rfl rfl)
theorem dX0_pairs_53 : decode cX0_pairs 53 = .ok (.ireturn, 1) := dk_172 (dk_at dksX0_pairs_2 6 rfl rfl)
abbrev cX0_neighbours : ByteArray := prog_1_method_41_code
def yX0_neighbours : MethodName := ⟨RX0, "neighbours", "(I)I"⟩
def dkwX0_neighbours_1 : List UInt8 := [182, 1, 76, 153, 0, 7, 4, 167, 0, 4, 3, 96, 61, 132, 3, 1, 167, 255, 222, 28, 172]
abbrev dktX0_neighbours_1 : List UInt8 := dkwX0_neighbours_1 ++ []
def dkwX0_neighbours_0 : List UInt8 := [3, 61, 3, 62, 29, 42, 180, 0, 32, 180, 0, 89, 182, 0, 92, 162, 0, 26, 28, 42, 27, 29]
abbrev dktX0_neighbours_0 : List UInt8 := dkwX0_neighbours_0 ++ dktX0_neighbours_1
theorem dksX0_neighbours_0 : cX0_neighbours.data.toList.drop 0 = dktX0_neighbours_0 := by decide +kernel
theorem dksX0_neighbours_1 : cX0_neighbours.data.toList.drop 22 = dktX0_neighbours_1 := dk_seg dksX0_neighbours_0 22 rfl rfl
theorem dX0_neighbours_0 : decode cX0_neighbours 0 = .ok (.iconst 0, 1) := dk_3 (dk_at dksX0_neighbours_0 0 rfl rfl)
theorem dX0_neighbours_1 : decode cX0_neighbours 1 = .ok (.istore_n 2, 1) := dk_61 (dk_at dksX0_neighbours_0 1 rfl rfl)
theorem dX0_neighbours_2 : decode cX0_neighbours 2 = .ok (.iconst 0, 1) := dk_3 (dk_at dksX0_neighbours_0 2 rfl rfl)
theorem dX0_neighbours_3 : decode cX0_neighbours 3 = .ok (.istore_n 3, 1) := dk_62 (dk_at dksX0_neighbours_0 3 rfl rfl)
theorem dX0_neighbours_4 : decode cX0_neighbours 4 = .ok (.iload_n 3, 1) := dk_29 (dk_at dksX0_neighbours_0 4 rfl rfl)
theorem dX0_neighbours_5 : decode cX0_neighbours 5 = .ok (.aload_n 0, 1) := dk_42 (dk_at dksX0_neighbours_0 5 rfl rfl)
theorem dX0_neighbours_6 : decode cX0_neighbours 6 = .ok (.getfield 32, 3) := dk_180 0 32 (dk_at dksX0_neighbours_0 6 rfl rfl)
theorem dX0_neighbours_9 : decode cX0_neighbours 9 = .ok (.getfield 89, 3) := dk_180 0 89 (dk_at dksX0_neighbours_0 9 rfl rfl)
theorem dX0_neighbours_12 : decode cX0_neighbours 12 = .ok (.invokevirtual 92, 3) := dk_182 0 92 (dk_at dksX0_neighbours_0 12 rfl rfl)
theorem dX0_neighbours_15 : decode cX0_neighbours 15 = .ok (.if_icmp .ge 26, 3) := dk_162 0 26 (dk_at dksX0_neighbours_0 15 rfl rfl)
theorem dX0_neighbours_18 : decode cX0_neighbours 18 = .ok (.iload_n 2, 1) := dk_28 (dk_at dksX0_neighbours_0 18 rfl rfl)
theorem dX0_neighbours_19 : decode cX0_neighbours 19 = .ok (.aload_n 0, 1) := dk_42 (dk_at dksX0_neighbours_0 19 rfl rfl)
theorem dX0_neighbours_20 : decode cX0_neighbours 20 = .ok (.iload_n 1, 1) := dk_27 (dk_at dksX0_neighbours_0 20 rfl rfl)
theorem dX0_neighbours_21 : decode cX0_neighbours 21 = .ok (.iload_n 3, 1) := dk_29 (dk_at dksX0_neighbours_0 21 rfl rfl)
theorem dX0_neighbours_22 : decode cX0_neighbours 22 = .ok (.invokevirtual 332, 3) := dk_182 1 76 (dk_at dksX0_neighbours_1 0 rfl rfl)
theorem dX0_neighbours_25 : decode cX0_neighbours 25 = .ok (.ifCond .eq 7, 3) := dk_153 0 7 (dk_at dksX0_neighbours_1 3 rfl rfl)
theorem dX0_neighbours_28 : decode cX0_neighbours 28 = .ok (.iconst 1, 1) := dk_4 (dk_at dksX0_neighbours_1 6 rfl rfl)
theorem dX0_neighbours_29 : decode cX0_neighbours 29 = .ok (.goto 4, 3) := dk_167 0 4 (dk_at dksX0_neighbours_1 7 rfl rfl)
theorem dX0_neighbours_32 : decode cX0_neighbours 32 = .ok (.iconst 0, 1) := dk_3 (dk_at dksX0_neighbours_1 10 rfl rfl)
theorem dX0_neighbours_33 : decode cX0_neighbours 33 = .ok (.iadd, 1) := dk_96 (dk_at dksX0_neighbours_1 11 rfl rfl)
theorem dX0_neighbours_34 : decode cX0_neighbours 34 = .ok (.istore_n 2, 1) := dk_61 (dk_at dksX0_neighbours_1 12 rfl rfl)
theorem dX0_neighbours_35 : decode cX0_neighbours 35 = .ok (.iinc 3 1, 3) := dk_132 3 1 (dk_at dksX0_neighbours_1 13 rfl rfl)
theorem dX0_neighbours_38 : decode cX0_neighbours 38 = .ok (.goto (-34), 3) := dk_167 255 222 (dk_at dksX0_neighbours_1 16 rfl rfl)
theorem dX0_neighbours_41 : decode cX0_neighbours 41 = .ok (.iload_n 2, 1) := dk_28 (dk_at dksX0_neighbours_1 19 rfl rfl)
theorem dX0_neighbours_42 : decode cX0_neighbours 42 = .ok (.ireturn, 1) := dk_172 (dk_at dksX0_neighbours_1 20 rfl rfl)
abbrev cX0_areNeighbours : ByteArray := prog_1_method_40_code
def yX0_areNeighbours : MethodName := ⟨RX0, "areNeighbours", "(II)Z"⟩
def dkwX0_areNeighbours_1 : List UInt8 := [182, 0, 116, 42, 180, 0, 32, 28, 182, 0, 116, 182, 1, 72, 158, 0, 7, 4, 167, 0, 4, 3, 172]
abbrev dktX0_areNeighbours_1 : List UInt8 := dkwX0_areNeighbours_1 ++ []
def dkwX0_areNeighbours_0 : List UInt8 := [27, 28, 159, 0, 43, 42, 180, 0, 32, 28, 182, 0, 116, 182, 1, 59, 153, 0, 29, 42, 180, 0, 32, 27]
abbrev dktX0_areNeighbours_0 : List UInt8 := dkwX0_areNeighbours_0 ++ dktX0_areNeighbours_1
theorem dksX0_areNeighbours_0 : cX0_areNeighbours.data.toList.drop 0 = dktX0_areNeighbours_0 := by decide +kernel
theorem dksX0_areNeighbours_1 : cX0_areNeighbours.data.toList.drop 24 = dktX0_areNeighbours_1 := dk_seg dksX0_areNeighbours_0 24 rfl rfl
theorem dX0_areNeighbours_0 : decode cX0_areNeighbours 0 = .ok (.iload_n 1, 1) := dk_27 (dk_at dksX0_areNeighbours_0 0 rfl rfl)
theorem dX0_areNeighbours_1 : decode cX0_areNeighbours 1 = .ok (.iload_n 2, 1) := dk_28 (dk_at dksX0_areNeighbours_0 1 rfl rfl)
theorem dX0_areNeighbours_2 : decode cX0_areNeighbours 2 = .ok (.if_icmp .eq 43, 3) := dk_159 0 43 (dk_at dksX0_areNeighbours_0 2 rfl rfl)
theorem dX0_areNeighbours_5 : decode cX0_areNeighbours 5 = .ok (.aload_n 0, 1) := dk_42 (dk_at dksX0_areNeighbours_0 5 rfl rfl)
theorem dX0_areNeighbours_6 : decode cX0_areNeighbours 6 = .ok (.getfield 32, 3) := dk_180 0 32 (dk_at dksX0_areNeighbours_0 6 rfl rfl)
theorem dX0_areNeighbours_9 : decode cX0_areNeighbours 9 = .ok (.iload_n 2, 1) := dk_28 (dk_at dksX0_areNeighbours_0 9 rfl rfl)
theorem dX0_areNeighbours_10 : decode cX0_areNeighbours 10 = .ok (.invokevirtual 116, 3) := dk_182 0 116 (dk_at dksX0_areNeighbours_0 10 rfl rfl)
theorem dX0_areNeighbours_13 : decode cX0_areNeighbours 13 = .ok (.invokevirtual 315, 3) := dk_182 1 59 (dk_at dksX0_areNeighbours_0 13 rfl rfl)
theorem dX0_areNeighbours_16 : decode cX0_areNeighbours 16 = .ok (.ifCond .eq 29, 3) := dk_153 0 29 (dk_at dksX0_areNeighbours_0 16 rfl rfl)
theorem dX0_areNeighbours_19 : decode cX0_areNeighbours 19 = .ok (.aload_n 0, 1) := dk_42 (dk_at dksX0_areNeighbours_0 19 rfl rfl)
theorem dX0_areNeighbours_20 : decode cX0_areNeighbours 20 = .ok (.getfield 32, 3) := dk_180 0 32 (dk_at dksX0_areNeighbours_0 20 rfl rfl)
theorem dX0_areNeighbours_23 : decode cX0_areNeighbours 23 = .ok (.iload_n 1, 1) := dk_27 (dk_at dksX0_areNeighbours_0 23 rfl rfl)
theorem dX0_areNeighbours_24 : decode cX0_areNeighbours 24 = .ok (.invokevirtual 116, 3) := dk_182 0 116 (dk_at dksX0_areNeighbours_1 0 rfl rfl)
theorem dX0_areNeighbours_27 : decode cX0_areNeighbours 27 = .ok (.aload_n 0, 1) := dk_42 (dk_at dksX0_areNeighbours_1 3 rfl rfl)
theorem dX0_areNeighbours_28 : decode cX0_areNeighbours 28 = .ok (.getfield 32, 3) := dk_180 0 32 (dk_at dksX0_areNeighbours_1 4 rfl rfl)
theorem dX0_areNeighbours_31 : decode cX0_areNeighbours 31 = .ok (.iload_n 2, 1) := dk_28 (dk_at dksX0_areNeighbours_1 7 rfl rfl)
theorem dX0_areNeighbours_32 : decode cX0_areNeighbours 32 = .ok (.invokevirtual 116, 3) := dk_182 0 116 (dk_at dksX0_areNeighbours_1 8 rfl rfl)
theorem dX0_areNeighbours_35 : decode cX0_areNeighbours 35 = .ok (.invokevirtual 328, 3) := dk_182 1 72 (dk_at dksX0_areNeighbours_1 11 rfl rfl)
theorem dX0_areNeighbours_38 : decode cX0_areNeighbours 38 = .ok (.ifCond .le 7, 3) := dk_158 0 7 (dk_at dksX0_areNeighbours_1 14 rfl rfl)
theorem dX0_areNeighbours_41 : decode cX0_areNeighbours 41 = .ok (.iconst 1, 1) := dk_4 (dk_at dksX0_areNeighbours_1 17 rfl rfl)
theorem dX0_areNeighbours_42 : decode cX0_areNeighbours 42 = .ok (.goto 4, 3) := dk_167 0 4 (dk_at dksX0_areNeighbours_1 18 rfl rfl)
theorem dX0_areNeighbours_45 : decode cX0_areNeighbours 45 = .ok (.iconst 0, 1) := dk_3 (dk_at dksX0_areNeighbours_1 21 rfl rfl)
theorem dX0_areNeighbours_46 : decode cX0_areNeighbours 46 = .ok (.ireturn, 1) := dk_172 (dk_at dksX0_areNeighbours_1 22 rfl rfl)
abbrev cX0_parcel : ByteArray := prog_1_method_46_code
def yX0_parcel : MethodName := ⟨RX0, "parcel", "(II)I"⟩
def dkwX0_parcel_7 : List UInt8 := [167, 0, 12, 42, 27, 182, 1, 79, 167, 0, 4, 2, 172]
abbrev dktX0_parcel_7 : List UInt8 := dkwX0_parcel_7 ++ []
def dkwX0_parcel_6 : List UInt8 := [182, 1, 136, 167, 0, 31, 42, 180, 0, 32, 27, 182, 1, 139, 167, 0, 20, 42, 27, 182, 1, 142]
abbrev dktX0_parcel_6 : List UInt8 := dkwX0_parcel_6 ++ dktX0_parcel_7
def dkwX0_parcel_5 : List UInt8 := [153, 0, 7, 4, 167, 0, 54, 3, 167, 0, 50, 42, 27, 182, 1, 133, 167, 0, 42, 42, 180, 0, 32, 27]
abbrev dktX0_parcel_5 : List UInt8 := dkwX0_parcel_5 ++ dktX0_parcel_6
def dkwX0_parcel_4 : List UInt8 := [3, 167, 0, 79, 45, 180, 1, 127, 167, 0, 72, 45, 180, 1, 130, 167, 0, 65, 45, 180, 1, 62]
abbrev dktX0_parcel_4 : List UInt8 := dkwX0_parcel_4 ++ dktX0_parcel_5
def dkwX0_parcel_3 : List UInt8 := [180, 0, 106, 167, 0, 101, 45, 182, 1, 124, 167, 0, 94, 45, 182, 1, 59, 153, 0, 7, 4, 167, 0, 83]
abbrev dktX0_parcel_3 : List UInt8 := dkwX0_parcel_3 ++ dktX0_parcel_4
def dkwX0_parcel_2 : List UInt8 := [45, 180, 1, 118, 167, 0, 122, 45, 180, 1, 121, 167, 0, 115, 45, 180, 0, 109, 167, 0, 108, 45]
abbrev dktX0_parcel_2 : List UInt8 := dkwX0_parcel_2 ++ dktX0_parcel_3
def dkwX0_parcel_1 : List UInt8 := [170, 0, 0, 0, 0, 0, 0, 197, 0, 0, 0, 0, 0, 0, 0, 13, 0, 0, 0, 72, 0, 0, 0, 79, 0, 0, 0, 86, 0, 0, 0, 93, 0, 0, 0, 100, 0, 0, 0, 107, 0, 0, 0, 122, 0, 0, 0, 129, 0, 0, 0, 136, 0, 0, 0, 151, 0, 0, 0, 159, 0, 0, 0, 170, 0, 0, 0, 181, 0, 0, 0, 189]
abbrev dktX0_parcel_1 : List UInt8 := dkwX0_parcel_1 ++ dktX0_parcel_2
def dkwX0_parcel_0 : List UInt8 := [42, 27, 182, 0, 110, 154, 0, 5, 2, 172, 42, 180, 0, 32, 27, 182, 0, 116, 78, 28]
abbrev dktX0_parcel_0 : List UInt8 := dkwX0_parcel_0 ++ dktX0_parcel_1
theorem dksX0_parcel_0 : cX0_parcel.data.toList.drop 0 = dktX0_parcel_0 := by decide +kernel
theorem dksX0_parcel_1 : cX0_parcel.data.toList.drop 20 = dktX0_parcel_1 := dk_seg dksX0_parcel_0 20 rfl rfl
theorem dksX0_parcel_2 : cX0_parcel.data.toList.drop 92 = dktX0_parcel_2 := dk_seg dksX0_parcel_1 72 rfl rfl
theorem dksX0_parcel_3 : cX0_parcel.data.toList.drop 114 = dktX0_parcel_3 := dk_seg dksX0_parcel_2 22 rfl rfl
theorem dksX0_parcel_4 : cX0_parcel.data.toList.drop 138 = dktX0_parcel_4 := dk_seg dksX0_parcel_3 24 rfl rfl
theorem dksX0_parcel_5 : cX0_parcel.data.toList.drop 160 = dktX0_parcel_5 := dk_seg dksX0_parcel_4 22 rfl rfl
theorem dksX0_parcel_6 : cX0_parcel.data.toList.drop 184 = dktX0_parcel_6 := dk_seg dksX0_parcel_5 24 rfl rfl
theorem dksX0_parcel_7 : cX0_parcel.data.toList.drop 206 = dktX0_parcel_7 := dk_seg dksX0_parcel_6 22 rfl rfl
theorem dX0_parcel_0 : decode cX0_parcel 0 = .ok (.aload_n 0, 1) := dk_42 (dk_at dksX0_parcel_0 0 rfl rfl)
theorem dX0_parcel_1 : decode cX0_parcel 1 = .ok (.iload_n 1, 1) := dk_27 (dk_at dksX0_parcel_0 1 rfl rfl)
theorem dX0_parcel_2 : decode cX0_parcel 2 = .ok (.invokevirtual 110, 3) := dk_182 0 110 (dk_at dksX0_parcel_0 2 rfl rfl)
theorem dX0_parcel_5 : decode cX0_parcel 5 = .ok (.ifCond .ne 5, 3) := dk_154 0 5 (dk_at dksX0_parcel_0 5 rfl rfl)
theorem dX0_parcel_8 : decode cX0_parcel 8 = .ok (.iconst (-1), 1) := dk_2 (dk_at dksX0_parcel_0 8 rfl rfl)
theorem dX0_parcel_9 : decode cX0_parcel 9 = .ok (.ireturn, 1) := dk_172 (dk_at dksX0_parcel_0 9 rfl rfl)
theorem dX0_parcel_10 : decode cX0_parcel 10 = .ok (.aload_n 0, 1) := dk_42 (dk_at dksX0_parcel_0 10 rfl rfl)
theorem dX0_parcel_11 : decode cX0_parcel 11 = .ok (.getfield 32, 3) := dk_180 0 32 (dk_at dksX0_parcel_0 11 rfl rfl)
theorem dX0_parcel_14 : decode cX0_parcel 14 = .ok (.iload_n 1, 1) := dk_27 (dk_at dksX0_parcel_0 14 rfl rfl)
theorem dX0_parcel_15 : decode cX0_parcel 15 = .ok (.invokevirtual 116, 3) := dk_182 0 116 (dk_at dksX0_parcel_0 15 rfl rfl)
theorem dX0_parcel_18 : decode cX0_parcel 18 = .ok (.astore_n 3, 1) := dk_78 (dk_at dksX0_parcel_0 18 rfl rfl)
theorem dX0_parcel_19 : decode cX0_parcel 19 = .ok (.iload_n 2, 1) := dk_28 (dk_at dksX0_parcel_0 19 rfl rfl)
theorem dX0_parcel_20 : decode cX0_parcel 20 = .ok (.tableswitch 197 0 13 #[72, 79, 86, 93, 100, 107, 122, 129, 136, 151, 159, 170, 181, 189], 72) := by decide +kernel
theorem dX0_parcel_92 : decode cX0_parcel 92 = .ok (.aload_n 3, 1) := dk_45 (dk_at dksX0_parcel_2 0 rfl rfl)
theorem dX0_parcel_93 : decode cX0_parcel 93 = .ok (.getfield 374, 3) := dk_180 1 118 (dk_at dksX0_parcel_2 1 rfl rfl)
theorem dX0_parcel_96 : decode cX0_parcel 96 = .ok (.goto 122, 3) := dk_167 0 122 (dk_at dksX0_parcel_2 4 rfl rfl)
theorem dX0_parcel_99 : decode cX0_parcel 99 = .ok (.aload_n 3, 1) := dk_45 (dk_at dksX0_parcel_2 7 rfl rfl)
theorem dX0_parcel_100 : decode cX0_parcel 100 = .ok (.getfield 377, 3) := dk_180 1 121 (dk_at dksX0_parcel_2 8 rfl rfl)
theorem dX0_parcel_103 : decode cX0_parcel 103 = .ok (.goto 115, 3) := dk_167 0 115 (dk_at dksX0_parcel_2 11 rfl rfl)
theorem dX0_parcel_106 : decode cX0_parcel 106 = .ok (.aload_n 3, 1) := dk_45 (dk_at dksX0_parcel_2 14 rfl rfl)
theorem dX0_parcel_107 : decode cX0_parcel 107 = .ok (.getfield 109, 3) := dk_180 0 109 (dk_at dksX0_parcel_2 15 rfl rfl)
theorem dX0_parcel_110 : decode cX0_parcel 110 = .ok (.goto 108, 3) := dk_167 0 108 (dk_at dksX0_parcel_2 18 rfl rfl)
theorem dX0_parcel_113 : decode cX0_parcel 113 = .ok (.aload_n 3, 1) := dk_45 (dk_at dksX0_parcel_2 21 rfl rfl)
theorem dX0_parcel_114 : decode cX0_parcel 114 = .ok (.getfield 106, 3) := dk_180 0 106 (dk_at dksX0_parcel_3 0 rfl rfl)
theorem dX0_parcel_117 : decode cX0_parcel 117 = .ok (.goto 101, 3) := dk_167 0 101 (dk_at dksX0_parcel_3 3 rfl rfl)
theorem dX0_parcel_120 : decode cX0_parcel 120 = .ok (.aload_n 3, 1) := dk_45 (dk_at dksX0_parcel_3 6 rfl rfl)
theorem dX0_parcel_121 : decode cX0_parcel 121 = .ok (.invokevirtual 380, 3) := dk_182 1 124 (dk_at dksX0_parcel_3 7 rfl rfl)
theorem dX0_parcel_124 : decode cX0_parcel 124 = .ok (.goto 94, 3) := dk_167 0 94 (dk_at dksX0_parcel_3 10 rfl rfl)
theorem dX0_parcel_127 : decode cX0_parcel 127 = .ok (.aload_n 3, 1) := dk_45 (dk_at dksX0_parcel_3 13 rfl rfl)
theorem dX0_parcel_128 : decode cX0_parcel 128 = .ok (.invokevirtual 315, 3) := dk_182 1 59 (dk_at dksX0_parcel_3 14 rfl rfl)
theorem dX0_parcel_131 : decode cX0_parcel 131 = .ok (.ifCond .eq 7, 3) := dk_153 0 7 (dk_at dksX0_parcel_3 17 rfl rfl)
theorem dX0_parcel_134 : decode cX0_parcel 134 = .ok (.iconst 1, 1) := dk_4 (dk_at dksX0_parcel_3 20 rfl rfl)
theorem dX0_parcel_135 : decode cX0_parcel 135 = .ok (.goto 83, 3) := dk_167 0 83 (dk_at dksX0_parcel_3 21 rfl rfl)
theorem dX0_parcel_138 : decode cX0_parcel 138 = .ok (.iconst 0, 1) := dk_3 (dk_at dksX0_parcel_4 0 rfl rfl)
theorem dX0_parcel_139 : decode cX0_parcel 139 = .ok (.goto 79, 3) := dk_167 0 79 (dk_at dksX0_parcel_4 1 rfl rfl)
theorem dX0_parcel_142 : decode cX0_parcel 142 = .ok (.aload_n 3, 1) := dk_45 (dk_at dksX0_parcel_4 4 rfl rfl)
theorem dX0_parcel_143 : decode cX0_parcel 143 = .ok (.getfield 383, 3) := dk_180 1 127 (dk_at dksX0_parcel_4 5 rfl rfl)
theorem dX0_parcel_146 : decode cX0_parcel 146 = .ok (.goto 72, 3) := dk_167 0 72 (dk_at dksX0_parcel_4 8 rfl rfl)
theorem dX0_parcel_149 : decode cX0_parcel 149 = .ok (.aload_n 3, 1) := dk_45 (dk_at dksX0_parcel_4 11 rfl rfl)
theorem dX0_parcel_150 : decode cX0_parcel 150 = .ok (.getfield 386, 3) := dk_180 1 130 (dk_at dksX0_parcel_4 12 rfl rfl)
theorem dX0_parcel_153 : decode cX0_parcel 153 = .ok (.goto 65, 3) := dk_167 0 65 (dk_at dksX0_parcel_4 15 rfl rfl)
theorem dX0_parcel_156 : decode cX0_parcel 156 = .ok (.aload_n 3, 1) := dk_45 (dk_at dksX0_parcel_4 18 rfl rfl)
theorem dX0_parcel_157 : decode cX0_parcel 157 = .ok (.getfield 318, 3) := dk_180 1 62 (dk_at dksX0_parcel_4 19 rfl rfl)
theorem dX0_parcel_160 : decode cX0_parcel 160 = .ok (.ifCond .eq 7, 3) := dk_153 0 7 (dk_at dksX0_parcel_5 0 rfl rfl)
theorem dX0_parcel_163 : decode cX0_parcel 163 = .ok (.iconst 1, 1) := dk_4 (dk_at dksX0_parcel_5 3 rfl rfl)
theorem dX0_parcel_164 : decode cX0_parcel 164 = .ok (.goto 54, 3) := dk_167 0 54 (dk_at dksX0_parcel_5 4 rfl rfl)
theorem dX0_parcel_167 : decode cX0_parcel 167 = .ok (.iconst 0, 1) := dk_3 (dk_at dksX0_parcel_5 7 rfl rfl)
theorem dX0_parcel_168 : decode cX0_parcel 168 = .ok (.goto 50, 3) := dk_167 0 50 (dk_at dksX0_parcel_5 8 rfl rfl)
theorem dX0_parcel_171 : decode cX0_parcel 171 = .ok (.aload_n 0, 1) := dk_42 (dk_at dksX0_parcel_5 11 rfl rfl)
theorem dX0_parcel_172 : decode cX0_parcel 172 = .ok (.iload_n 1, 1) := dk_27 (dk_at dksX0_parcel_5 12 rfl rfl)
theorem dX0_parcel_173 : decode cX0_parcel 173 = .ok (.invokevirtual 389, 3) := dk_182 1 133 (dk_at dksX0_parcel_5 13 rfl rfl)
theorem dX0_parcel_176 : decode cX0_parcel 176 = .ok (.goto 42, 3) := dk_167 0 42 (dk_at dksX0_parcel_5 16 rfl rfl)
theorem dX0_parcel_179 : decode cX0_parcel 179 = .ok (.aload_n 0, 1) := dk_42 (dk_at dksX0_parcel_5 19 rfl rfl)
theorem dX0_parcel_180 : decode cX0_parcel 180 = .ok (.getfield 32, 3) := dk_180 0 32 (dk_at dksX0_parcel_5 20 rfl rfl)
theorem dX0_parcel_183 : decode cX0_parcel 183 = .ok (.iload_n 1, 1) := dk_27 (dk_at dksX0_parcel_5 23 rfl rfl)
theorem dX0_parcel_184 : decode cX0_parcel 184 = .ok (.invokevirtual 392, 3) := dk_182 1 136 (dk_at dksX0_parcel_6 0 rfl rfl)
theorem dX0_parcel_187 : decode cX0_parcel 187 = .ok (.goto 31, 3) := dk_167 0 31 (dk_at dksX0_parcel_6 3 rfl rfl)
theorem dX0_parcel_190 : decode cX0_parcel 190 = .ok (.aload_n 0, 1) := dk_42 (dk_at dksX0_parcel_6 6 rfl rfl)
theorem dX0_parcel_191 : decode cX0_parcel 191 = .ok (.getfield 32, 3) := dk_180 0 32 (dk_at dksX0_parcel_6 7 rfl rfl)
theorem dX0_parcel_194 : decode cX0_parcel 194 = .ok (.iload_n 1, 1) := dk_27 (dk_at dksX0_parcel_6 10 rfl rfl)
theorem dX0_parcel_195 : decode cX0_parcel 195 = .ok (.invokevirtual 395, 3) := dk_182 1 139 (dk_at dksX0_parcel_6 11 rfl rfl)
theorem dX0_parcel_198 : decode cX0_parcel 198 = .ok (.goto 20, 3) := dk_167 0 20 (dk_at dksX0_parcel_6 14 rfl rfl)
theorem dX0_parcel_201 : decode cX0_parcel 201 = .ok (.aload_n 0, 1) := dk_42 (dk_at dksX0_parcel_6 17 rfl rfl)
theorem dX0_parcel_202 : decode cX0_parcel 202 = .ok (.iload_n 1, 1) := dk_27 (dk_at dksX0_parcel_6 18 rfl rfl)
theorem dX0_parcel_203 : decode cX0_parcel 203 = .ok (.invokevirtual 398, 3) := dk_182 1 142 (dk_at dksX0_parcel_6 19 rfl rfl)
theorem dX0_parcel_206 : decode cX0_parcel 206 = .ok (.goto 12, 3) := dk_167 0 12 (dk_at dksX0_parcel_7 0 rfl rfl)
theorem dX0_parcel_209 : decode cX0_parcel 209 = .ok (.aload_n 0, 1) := dk_42 (dk_at dksX0_parcel_7 3 rfl rfl)
theorem dX0_parcel_210 : decode cX0_parcel 210 = .ok (.iload_n 1, 1) := dk_27 (dk_at dksX0_parcel_7 4 rfl rfl)
theorem dX0_parcel_211 : decode cX0_parcel 211 = .ok (.invokevirtual 335, 3) := dk_182 1 79 (dk_at dksX0_parcel_7 5 rfl rfl)
theorem dX0_parcel_214 : decode cX0_parcel 214 = .ok (.goto 4, 3) := dk_167 0 4 (dk_at dksX0_parcel_7 8 rfl rfl)
theorem dX0_parcel_217 : decode cX0_parcel 217 = .ok (.iconst (-1), 1) := dk_2 (dk_at dksX0_parcel_7 11 rfl rfl)
theorem dX0_parcel_218 : decode cX0_parcel 218 = .ok (.ireturn, 1) := dk_172 (dk_at dksX0_parcel_7 12 rfl rfl)
abbrev cX0_burdensOn : ByteArray := prog_1_method_44_code
def yX0_burdensOn : MethodName := ⟨RX0, "burdensOn", "(I)I"⟩
def dkwX0_burdensOn_2 : List UInt8 := [4, 167, 0, 4, 3, 96, 61, 167, 255, 219, 28, 172]
abbrev dktX0_burdensOn_2 : List UInt8 := dkwX0_burdensOn_2 ++ []
def dkwX0_burdensOn_1 : List UInt8 := [153, 0, 34, 45, 185, 1, 115, 1, 0, 192, 1, 35, 58, 4, 28, 25, 4, 27, 182, 1, 42, 153, 0, 7]
abbrev dktX0_burdensOn_1 : List UInt8 := dkwX0_burdensOn_1 ++ dktX0_burdensOn_2
def dkwX0_burdensOn_0 : List UInt8 := [3, 61, 187, 1, 101, 89, 42, 180, 0, 32, 27, 183, 1, 103, 182, 1, 106, 78, 45, 185, 1, 110, 1, 0]
abbrev dktX0_burdensOn_0 : List UInt8 := dkwX0_burdensOn_0 ++ dktX0_burdensOn_1
theorem dksX0_burdensOn_0 : cX0_burdensOn.data.toList.drop 0 = dktX0_burdensOn_0 := by decide +kernel
theorem dksX0_burdensOn_1 : cX0_burdensOn.data.toList.drop 24 = dktX0_burdensOn_1 := dk_seg dksX0_burdensOn_0 24 rfl rfl
theorem dksX0_burdensOn_2 : cX0_burdensOn.data.toList.drop 48 = dktX0_burdensOn_2 := dk_seg dksX0_burdensOn_1 24 rfl rfl
theorem dX0_burdensOn_0 : decode cX0_burdensOn 0 = .ok (.iconst 0, 1) := dk_3 (dk_at dksX0_burdensOn_0 0 rfl rfl)
theorem dX0_burdensOn_1 : decode cX0_burdensOn 1 = .ok (.istore_n 2, 1) := dk_61 (dk_at dksX0_burdensOn_0 1 rfl rfl)
theorem dX0_burdensOn_2 : decode cX0_burdensOn 2 = .ok (.new 357, 3) := dk_187 1 101 (dk_at dksX0_burdensOn_0 2 rfl rfl)
theorem dX0_burdensOn_5 : decode cX0_burdensOn 5 = .ok (.dup, 1) := dk_89 (dk_at dksX0_burdensOn_0 5 rfl rfl)
theorem dX0_burdensOn_6 : decode cX0_burdensOn 6 = .ok (.aload_n 0, 1) := dk_42 (dk_at dksX0_burdensOn_0 6 rfl rfl)
theorem dX0_burdensOn_7 : decode cX0_burdensOn 7 = .ok (.getfield 32, 3) := dk_180 0 32 (dk_at dksX0_burdensOn_0 7 rfl rfl)
theorem dX0_burdensOn_10 : decode cX0_burdensOn 10 = .ok (.iload_n 1, 1) := dk_27 (dk_at dksX0_burdensOn_0 10 rfl rfl)
theorem dX0_burdensOn_11 : decode cX0_burdensOn 11 = .ok (.invokespecial 359, 3) := dk_183 1 103 (dk_at dksX0_burdensOn_0 11 rfl rfl)
theorem dX0_burdensOn_14 : decode cX0_burdensOn 14 = .ok (.invokevirtual 362, 3) := dk_182 1 106 (dk_at dksX0_burdensOn_0 14 rfl rfl)
theorem dX0_burdensOn_17 : decode cX0_burdensOn 17 = .ok (.astore_n 3, 1) := dk_78 (dk_at dksX0_burdensOn_0 17 rfl rfl)
theorem dX0_burdensOn_18 : decode cX0_burdensOn 18 = .ok (.aload_n 3, 1) := dk_45 (dk_at dksX0_burdensOn_0 18 rfl rfl)
theorem dX0_burdensOn_19 : decode cX0_burdensOn 19 = .ok (.invokeinterface 366 1, 5) := by decide +kernel
theorem dX0_burdensOn_24 : decode cX0_burdensOn 24 = .ok (.ifCond .eq 34, 3) := dk_153 0 34 (dk_at dksX0_burdensOn_1 0 rfl rfl)
theorem dX0_burdensOn_27 : decode cX0_burdensOn 27 = .ok (.aload_n 3, 1) := dk_45 (dk_at dksX0_burdensOn_1 3 rfl rfl)
theorem dX0_burdensOn_28 : decode cX0_burdensOn 28 = .ok (.invokeinterface 371 1, 5) := by decide +kernel
theorem dX0_burdensOn_33 : decode cX0_burdensOn 33 = .ok (.checkcast 291, 3) := dk_192 1 35 (dk_at dksX0_burdensOn_1 9 rfl rfl)
theorem dX0_burdensOn_36 : decode cX0_burdensOn 36 = .ok (.astore 4, 2) := dk_58 4 (dk_at dksX0_burdensOn_1 12 rfl rfl)
theorem dX0_burdensOn_38 : decode cX0_burdensOn 38 = .ok (.iload_n 2, 1) := dk_28 (dk_at dksX0_burdensOn_1 14 rfl rfl)
theorem dX0_burdensOn_39 : decode cX0_burdensOn 39 = .ok (.aload 4, 2) := dk_25 4 (dk_at dksX0_burdensOn_1 15 rfl rfl)
theorem dX0_burdensOn_41 : decode cX0_burdensOn 41 = .ok (.iload_n 1, 1) := dk_27 (dk_at dksX0_burdensOn_1 17 rfl rfl)
theorem dX0_burdensOn_42 : decode cX0_burdensOn 42 = .ok (.invokevirtual 298, 3) := dk_182 1 42 (dk_at dksX0_burdensOn_1 18 rfl rfl)
theorem dX0_burdensOn_45 : decode cX0_burdensOn 45 = .ok (.ifCond .eq 7, 3) := dk_153 0 7 (dk_at dksX0_burdensOn_1 21 rfl rfl)
theorem dX0_burdensOn_48 : decode cX0_burdensOn 48 = .ok (.iconst 1, 1) := dk_4 (dk_at dksX0_burdensOn_2 0 rfl rfl)
theorem dX0_burdensOn_49 : decode cX0_burdensOn 49 = .ok (.goto 4, 3) := dk_167 0 4 (dk_at dksX0_burdensOn_2 1 rfl rfl)
theorem dX0_burdensOn_52 : decode cX0_burdensOn 52 = .ok (.iconst 0, 1) := dk_3 (dk_at dksX0_burdensOn_2 4 rfl rfl)
theorem dX0_burdensOn_53 : decode cX0_burdensOn 53 = .ok (.iadd, 1) := dk_96 (dk_at dksX0_burdensOn_2 5 rfl rfl)
theorem dX0_burdensOn_54 : decode cX0_burdensOn 54 = .ok (.istore_n 2, 1) := dk_61 (dk_at dksX0_burdensOn_2 6 rfl rfl)
theorem dX0_burdensOn_55 : decode cX0_burdensOn 55 = .ok (.goto (-37), 3) := dk_167 255 219 (dk_at dksX0_burdensOn_2 7 rfl rfl)
theorem dX0_burdensOn_58 : decode cX0_burdensOn 58 = .ok (.iload_n 2, 1) := dk_28 (dk_at dksX0_burdensOn_2 10 rfl rfl)
theorem dX0_burdensOn_59 : decode cX0_burdensOn 59 = .ok (.ireturn, 1) := dk_172 (dk_at dksX0_burdensOn_2 11 rfl rfl)
abbrev cX0_holders : ByteArray := prog_1_method_45_code
def yX0_holders : MethodName := ⟨RX0, "holders", "(I)I"⟩
def dkwX0_holders_2 : List UInt8 := [132, 5, 1, 167, 255, 227, 28, 172]
abbrev dktX0_holders_2 : List UInt8 := dkwX0_holders_2 ++ []
def dkwX0_holders_1 : List UInt8 := [21, 4, 162, 0, 28, 45, 21, 5, 46, 54, 6, 28, 21, 6, 158, 0, 7, 4, 167, 0, 4, 3, 96, 61]
abbrev dktX0_holders_1 : List UInt8 := dkwX0_holders_1 ++ dktX0_holders_2
def dkwX0_holders_0 : List UInt8 := [3, 61, 42, 180, 0, 32, 27, 182, 0, 238, 180, 0, 242, 78, 45, 190, 54, 4, 3, 54, 5, 21, 5]
abbrev dktX0_holders_0 : List UInt8 := dkwX0_holders_0 ++ dktX0_holders_1
theorem dksX0_holders_0 : cX0_holders.data.toList.drop 0 = dktX0_holders_0 := by decide +kernel
theorem dksX0_holders_1 : cX0_holders.data.toList.drop 23 = dktX0_holders_1 := dk_seg dksX0_holders_0 23 rfl rfl
theorem dksX0_holders_2 : cX0_holders.data.toList.drop 47 = dktX0_holders_2 := dk_seg dksX0_holders_1 24 rfl rfl
theorem dX0_holders_0 : decode cX0_holders 0 = .ok (.iconst 0, 1) := dk_3 (dk_at dksX0_holders_0 0 rfl rfl)
theorem dX0_holders_1 : decode cX0_holders 1 = .ok (.istore_n 2, 1) := dk_61 (dk_at dksX0_holders_0 1 rfl rfl)
theorem dX0_holders_2 : decode cX0_holders 2 = .ok (.aload_n 0, 1) := dk_42 (dk_at dksX0_holders_0 2 rfl rfl)
theorem dX0_holders_3 : decode cX0_holders 3 = .ok (.getfield 32, 3) := dk_180 0 32 (dk_at dksX0_holders_0 3 rfl rfl)
theorem dX0_holders_6 : decode cX0_holders 6 = .ok (.iload_n 1, 1) := dk_27 (dk_at dksX0_holders_0 6 rfl rfl)
theorem dX0_holders_7 : decode cX0_holders 7 = .ok (.invokevirtual 238, 3) := dk_182 0 238 (dk_at dksX0_holders_0 7 rfl rfl)
theorem dX0_holders_10 : decode cX0_holders 10 = .ok (.getfield 242, 3) := dk_180 0 242 (dk_at dksX0_holders_0 10 rfl rfl)
theorem dX0_holders_13 : decode cX0_holders 13 = .ok (.astore_n 3, 1) := dk_78 (dk_at dksX0_holders_0 13 rfl rfl)
theorem dX0_holders_14 : decode cX0_holders 14 = .ok (.aload_n 3, 1) := dk_45 (dk_at dksX0_holders_0 14 rfl rfl)
theorem dX0_holders_15 : decode cX0_holders 15 = .ok (.arraylength, 1) := dk_190 (dk_at dksX0_holders_0 15 rfl rfl)
theorem dX0_holders_16 : decode cX0_holders 16 = .ok (.istore 4, 2) := dk_54 4 (dk_at dksX0_holders_0 16 rfl rfl)
theorem dX0_holders_18 : decode cX0_holders 18 = .ok (.iconst 0, 1) := dk_3 (dk_at dksX0_holders_0 18 rfl rfl)
theorem dX0_holders_19 : decode cX0_holders 19 = .ok (.istore 5, 2) := dk_54 5 (dk_at dksX0_holders_0 19 rfl rfl)
theorem dX0_holders_21 : decode cX0_holders 21 = .ok (.iload 5, 2) := dk_21 5 (dk_at dksX0_holders_0 21 rfl rfl)
theorem dX0_holders_23 : decode cX0_holders 23 = .ok (.iload 4, 2) := dk_21 4 (dk_at dksX0_holders_1 0 rfl rfl)
theorem dX0_holders_25 : decode cX0_holders 25 = .ok (.if_icmp .ge 28, 3) := dk_162 0 28 (dk_at dksX0_holders_1 2 rfl rfl)
theorem dX0_holders_28 : decode cX0_holders 28 = .ok (.aload_n 3, 1) := dk_45 (dk_at dksX0_holders_1 5 rfl rfl)
theorem dX0_holders_29 : decode cX0_holders 29 = .ok (.iload 5, 2) := dk_21 5 (dk_at dksX0_holders_1 6 rfl rfl)
theorem dX0_holders_31 : decode cX0_holders 31 = .ok (.iaload, 1) := dk_46 (dk_at dksX0_holders_1 8 rfl rfl)
theorem dX0_holders_32 : decode cX0_holders 32 = .ok (.istore 6, 2) := dk_54 6 (dk_at dksX0_holders_1 9 rfl rfl)
theorem dX0_holders_34 : decode cX0_holders 34 = .ok (.iload_n 2, 1) := dk_28 (dk_at dksX0_holders_1 11 rfl rfl)
theorem dX0_holders_35 : decode cX0_holders 35 = .ok (.iload 6, 2) := dk_21 6 (dk_at dksX0_holders_1 12 rfl rfl)
theorem dX0_holders_37 : decode cX0_holders 37 = .ok (.ifCond .le 7, 3) := dk_158 0 7 (dk_at dksX0_holders_1 14 rfl rfl)
theorem dX0_holders_40 : decode cX0_holders 40 = .ok (.iconst 1, 1) := dk_4 (dk_at dksX0_holders_1 17 rfl rfl)
theorem dX0_holders_41 : decode cX0_holders 41 = .ok (.goto 4, 3) := dk_167 0 4 (dk_at dksX0_holders_1 18 rfl rfl)
theorem dX0_holders_44 : decode cX0_holders 44 = .ok (.iconst 0, 1) := dk_3 (dk_at dksX0_holders_1 21 rfl rfl)
theorem dX0_holders_45 : decode cX0_holders 45 = .ok (.iadd, 1) := dk_96 (dk_at dksX0_holders_1 22 rfl rfl)
theorem dX0_holders_46 : decode cX0_holders 46 = .ok (.istore_n 2, 1) := dk_61 (dk_at dksX0_holders_1 23 rfl rfl)
theorem dX0_holders_47 : decode cX0_holders 47 = .ok (.iinc 5 1, 3) := dk_132 5 1 (dk_at dksX0_holders_2 0 rfl rfl)
theorem dX0_holders_50 : decode cX0_holders 50 = .ok (.goto (-29), 3) := dk_167 255 227 (dk_at dksX0_holders_2 3 rfl rfl)
theorem dX0_holders_53 : decode cX0_holders 53 = .ok (.iload_n 2, 1) := dk_28 (dk_at dksX0_holders_2 6 rfl rfl)
theorem dX0_holders_54 : decode cX0_holders 54 = .ok (.ireturn, 1) := dk_172 (dk_at dksX0_holders_2 7 rfl rfl)
abbrev cX0_parent : ByteArray := prog_1_method_47_code
def yX0_parent : MethodName := ⟨RX0, "parent", "(II)I"⟩
def dkwX0_parent_1 : List UInt8 := [167, 0, 4, 2, 172]
abbrev dktX0_parent_1 : List UInt8 := dkwX0_parent_1 ++ []
def dkwX0_parent_0 : List UInt8 := [42, 27, 182, 0, 110, 153, 0, 22, 28, 155, 0, 18, 42, 180, 0, 32, 27, 182, 0, 116, 28, 182, 1, 145]
abbrev dktX0_parent_0 : List UInt8 := dkwX0_parent_0 ++ dktX0_parent_1
theorem dksX0_parent_0 : cX0_parent.data.toList.drop 0 = dktX0_parent_0 := by decide +kernel
theorem dksX0_parent_1 : cX0_parent.data.toList.drop 24 = dktX0_parent_1 := dk_seg dksX0_parent_0 24 rfl rfl
theorem dX0_parent_0 : decode cX0_parent 0 = .ok (.aload_n 0, 1) := dk_42 (dk_at dksX0_parent_0 0 rfl rfl)
theorem dX0_parent_1 : decode cX0_parent 1 = .ok (.iload_n 1, 1) := dk_27 (dk_at dksX0_parent_0 1 rfl rfl)
theorem dX0_parent_2 : decode cX0_parent 2 = .ok (.invokevirtual 110, 3) := dk_182 0 110 (dk_at dksX0_parent_0 2 rfl rfl)
theorem dX0_parent_5 : decode cX0_parent 5 = .ok (.ifCond .eq 22, 3) := dk_153 0 22 (dk_at dksX0_parent_0 5 rfl rfl)
theorem dX0_parent_8 : decode cX0_parent 8 = .ok (.iload_n 2, 1) := dk_28 (dk_at dksX0_parent_0 8 rfl rfl)
theorem dX0_parent_9 : decode cX0_parent 9 = .ok (.ifCond .lt 18, 3) := dk_155 0 18 (dk_at dksX0_parent_0 9 rfl rfl)
theorem dX0_parent_12 : decode cX0_parent 12 = .ok (.aload_n 0, 1) := dk_42 (dk_at dksX0_parent_0 12 rfl rfl)
theorem dX0_parent_13 : decode cX0_parent 13 = .ok (.getfield 32, 3) := dk_180 0 32 (dk_at dksX0_parent_0 13 rfl rfl)
theorem dX0_parent_16 : decode cX0_parent 16 = .ok (.iload_n 1, 1) := dk_27 (dk_at dksX0_parent_0 16 rfl rfl)
theorem dX0_parent_17 : decode cX0_parent 17 = .ok (.invokevirtual 116, 3) := dk_182 0 116 (dk_at dksX0_parent_0 17 rfl rfl)
theorem dX0_parent_20 : decode cX0_parent 20 = .ok (.iload_n 2, 1) := dk_28 (dk_at dksX0_parent_0 20 rfl rfl)
theorem dX0_parent_21 : decode cX0_parent 21 = .ok (.invokevirtual 401, 3) := dk_182 1 145 (dk_at dksX0_parent_0 21 rfl rfl)
theorem dX0_parent_24 : decode cX0_parent 24 = .ok (.goto 4, 3) := dk_167 0 4 (dk_at dksX0_parent_1 0 rfl rfl)
theorem dX0_parent_27 : decode cX0_parent 27 = .ok (.iconst (-1), 1) := dk_2 (dk_at dksX0_parent_1 3 rfl rfl)
theorem dX0_parent_28 : decode cX0_parent 28 = .ok (.ireturn, 1) := dk_172 (dk_at dksX0_parent_1 4 rfl rfl)
abbrev cX0_child : ByteArray := prog_1_method_48_code
def yX0_child : MethodName := ⟨RX0, "child", "(II)I"⟩
def dkwX0_child_4 : List UInt8 := [167, 0, 4, 3, 100, 62, 132, 4, 1, 167, 255, 174, 16, 254, 172]
abbrev dktX0_child_4 : List UInt8 := dkwX0_child_4 ++ []
def dkwX0_child_3 : List UInt8 := [3, 54, 5, 21, 5, 153, 0, 10, 29, 154, 0, 6, 21, 4, 172, 29, 21, 5, 153, 0, 7, 4]
abbrev dktX0_child_3 : List UInt8 := dkwX0_child_3 ++ dktX0_child_4
def dkwX0_child_2 : List UInt8 := [27, 159, 0, 19, 42, 180, 0, 32, 21, 4, 182, 0, 116, 180, 1, 151, 27, 160, 0, 7, 4, 167, 0, 4]
abbrev dktX0_child_2 : List UInt8 := dkwX0_child_2 ++ dktX0_child_3
def dkwX0_child_1 : List UInt8 := [180, 0, 32, 180, 0, 89, 182, 0, 92, 162, 0, 73, 42, 180, 0, 32, 21, 4, 182, 0, 116, 180, 1, 148]
abbrev dktX0_child_1 : List UInt8 := dkwX0_child_1 ++ dktX0_child_2
def dkwX0_child_0 : List UInt8 := [42, 27, 182, 0, 110, 153, 0, 7, 28, 156, 0, 5, 2, 172, 28, 62, 3, 54, 4, 21, 4, 42]
abbrev dktX0_child_0 : List UInt8 := dkwX0_child_0 ++ dktX0_child_1
theorem dksX0_child_0 : cX0_child.data.toList.drop 0 = dktX0_child_0 := by decide +kernel
theorem dksX0_child_1 : cX0_child.data.toList.drop 22 = dktX0_child_1 := dk_seg dksX0_child_0 22 rfl rfl
theorem dksX0_child_2 : cX0_child.data.toList.drop 46 = dktX0_child_2 := dk_seg dksX0_child_1 24 rfl rfl
theorem dksX0_child_3 : cX0_child.data.toList.drop 70 = dktX0_child_3 := dk_seg dksX0_child_2 24 rfl rfl
theorem dksX0_child_4 : cX0_child.data.toList.drop 92 = dktX0_child_4 := dk_seg dksX0_child_3 22 rfl rfl
theorem dX0_child_0 : decode cX0_child 0 = .ok (.aload_n 0, 1) := dk_42 (dk_at dksX0_child_0 0 rfl rfl)
theorem dX0_child_1 : decode cX0_child 1 = .ok (.iload_n 1, 1) := dk_27 (dk_at dksX0_child_0 1 rfl rfl)
theorem dX0_child_2 : decode cX0_child 2 = .ok (.invokevirtual 110, 3) := dk_182 0 110 (dk_at dksX0_child_0 2 rfl rfl)
theorem dX0_child_5 : decode cX0_child 5 = .ok (.ifCond .eq 7, 3) := dk_153 0 7 (dk_at dksX0_child_0 5 rfl rfl)
theorem dX0_child_8 : decode cX0_child 8 = .ok (.iload_n 2, 1) := dk_28 (dk_at dksX0_child_0 8 rfl rfl)
theorem dX0_child_9 : decode cX0_child 9 = .ok (.ifCond .ge 5, 3) := dk_156 0 5 (dk_at dksX0_child_0 9 rfl rfl)
theorem dX0_child_12 : decode cX0_child 12 = .ok (.iconst (-1), 1) := dk_2 (dk_at dksX0_child_0 12 rfl rfl)
theorem dX0_child_13 : decode cX0_child 13 = .ok (.ireturn, 1) := dk_172 (dk_at dksX0_child_0 13 rfl rfl)
theorem dX0_child_14 : decode cX0_child 14 = .ok (.iload_n 2, 1) := dk_28 (dk_at dksX0_child_0 14 rfl rfl)
theorem dX0_child_15 : decode cX0_child 15 = .ok (.istore_n 3, 1) := dk_62 (dk_at dksX0_child_0 15 rfl rfl)
theorem dX0_child_16 : decode cX0_child 16 = .ok (.iconst 0, 1) := dk_3 (dk_at dksX0_child_0 16 rfl rfl)
theorem dX0_child_17 : decode cX0_child 17 = .ok (.istore 4, 2) := dk_54 4 (dk_at dksX0_child_0 17 rfl rfl)
theorem dX0_child_19 : decode cX0_child 19 = .ok (.iload 4, 2) := dk_21 4 (dk_at dksX0_child_0 19 rfl rfl)
theorem dX0_child_21 : decode cX0_child 21 = .ok (.aload_n 0, 1) := dk_42 (dk_at dksX0_child_0 21 rfl rfl)
theorem dX0_child_22 : decode cX0_child 22 = .ok (.getfield 32, 3) := dk_180 0 32 (dk_at dksX0_child_1 0 rfl rfl)
theorem dX0_child_25 : decode cX0_child 25 = .ok (.getfield 89, 3) := dk_180 0 89 (dk_at dksX0_child_1 3 rfl rfl)
theorem dX0_child_28 : decode cX0_child 28 = .ok (.invokevirtual 92, 3) := dk_182 0 92 (dk_at dksX0_child_1 6 rfl rfl)
theorem dX0_child_31 : decode cX0_child 31 = .ok (.if_icmp .ge 73, 3) := dk_162 0 73 (dk_at dksX0_child_1 9 rfl rfl)
theorem dX0_child_34 : decode cX0_child 34 = .ok (.aload_n 0, 1) := dk_42 (dk_at dksX0_child_1 12 rfl rfl)
theorem dX0_child_35 : decode cX0_child 35 = .ok (.getfield 32, 3) := dk_180 0 32 (dk_at dksX0_child_1 13 rfl rfl)
theorem dX0_child_38 : decode cX0_child 38 = .ok (.iload 4, 2) := dk_21 4 (dk_at dksX0_child_1 16 rfl rfl)
theorem dX0_child_40 : decode cX0_child 40 = .ok (.invokevirtual 116, 3) := dk_182 0 116 (dk_at dksX0_child_1 18 rfl rfl)
theorem dX0_child_43 : decode cX0_child 43 = .ok (.getfield 404, 3) := dk_180 1 148 (dk_at dksX0_child_1 21 rfl rfl)
theorem dX0_child_46 : decode cX0_child 46 = .ok (.iload_n 1, 1) := dk_27 (dk_at dksX0_child_2 0 rfl rfl)
theorem dX0_child_47 : decode cX0_child 47 = .ok (.if_icmp .eq 19, 3) := dk_159 0 19 (dk_at dksX0_child_2 1 rfl rfl)
theorem dX0_child_50 : decode cX0_child 50 = .ok (.aload_n 0, 1) := dk_42 (dk_at dksX0_child_2 4 rfl rfl)
theorem dX0_child_51 : decode cX0_child 51 = .ok (.getfield 32, 3) := dk_180 0 32 (dk_at dksX0_child_2 5 rfl rfl)
theorem dX0_child_54 : decode cX0_child 54 = .ok (.iload 4, 2) := dk_21 4 (dk_at dksX0_child_2 8 rfl rfl)
theorem dX0_child_56 : decode cX0_child 56 = .ok (.invokevirtual 116, 3) := dk_182 0 116 (dk_at dksX0_child_2 10 rfl rfl)
theorem dX0_child_59 : decode cX0_child 59 = .ok (.getfield 407, 3) := dk_180 1 151 (dk_at dksX0_child_2 13 rfl rfl)
theorem dX0_child_62 : decode cX0_child 62 = .ok (.iload_n 1, 1) := dk_27 (dk_at dksX0_child_2 16 rfl rfl)
theorem dX0_child_63 : decode cX0_child 63 = .ok (.if_icmp .ne 7, 3) := dk_160 0 7 (dk_at dksX0_child_2 17 rfl rfl)
theorem dX0_child_66 : decode cX0_child 66 = .ok (.iconst 1, 1) := dk_4 (dk_at dksX0_child_2 20 rfl rfl)
theorem dX0_child_67 : decode cX0_child 67 = .ok (.goto 4, 3) := dk_167 0 4 (dk_at dksX0_child_2 21 rfl rfl)
theorem dX0_child_70 : decode cX0_child 70 = .ok (.iconst 0, 1) := dk_3 (dk_at dksX0_child_3 0 rfl rfl)
theorem dX0_child_71 : decode cX0_child 71 = .ok (.istore 5, 2) := dk_54 5 (dk_at dksX0_child_3 1 rfl rfl)
theorem dX0_child_73 : decode cX0_child 73 = .ok (.iload 5, 2) := dk_21 5 (dk_at dksX0_child_3 3 rfl rfl)
theorem dX0_child_75 : decode cX0_child 75 = .ok (.ifCond .eq 10, 3) := dk_153 0 10 (dk_at dksX0_child_3 5 rfl rfl)
theorem dX0_child_78 : decode cX0_child 78 = .ok (.iload_n 3, 1) := dk_29 (dk_at dksX0_child_3 8 rfl rfl)
theorem dX0_child_79 : decode cX0_child 79 = .ok (.ifCond .ne 6, 3) := dk_154 0 6 (dk_at dksX0_child_3 9 rfl rfl)
theorem dX0_child_82 : decode cX0_child 82 = .ok (.iload 4, 2) := dk_21 4 (dk_at dksX0_child_3 12 rfl rfl)
theorem dX0_child_84 : decode cX0_child 84 = .ok (.ireturn, 1) := dk_172 (dk_at dksX0_child_3 14 rfl rfl)
theorem dX0_child_85 : decode cX0_child 85 = .ok (.iload_n 3, 1) := dk_29 (dk_at dksX0_child_3 15 rfl rfl)
theorem dX0_child_86 : decode cX0_child 86 = .ok (.iload 5, 2) := dk_21 5 (dk_at dksX0_child_3 16 rfl rfl)
theorem dX0_child_88 : decode cX0_child 88 = .ok (.ifCond .eq 7, 3) := dk_153 0 7 (dk_at dksX0_child_3 18 rfl rfl)
theorem dX0_child_91 : decode cX0_child 91 = .ok (.iconst 1, 1) := dk_4 (dk_at dksX0_child_3 21 rfl rfl)
theorem dX0_child_92 : decode cX0_child 92 = .ok (.goto 4, 3) := dk_167 0 4 (dk_at dksX0_child_4 0 rfl rfl)
theorem dX0_child_95 : decode cX0_child 95 = .ok (.iconst 0, 1) := dk_3 (dk_at dksX0_child_4 3 rfl rfl)
theorem dX0_child_96 : decode cX0_child 96 = .ok (.isub, 1) := dk_100 (dk_at dksX0_child_4 4 rfl rfl)
theorem dX0_child_97 : decode cX0_child 97 = .ok (.istore_n 3, 1) := dk_62 (dk_at dksX0_child_4 5 rfl rfl)
theorem dX0_child_98 : decode cX0_child 98 = .ok (.iinc 4 1, 3) := dk_132 4 1 (dk_at dksX0_child_4 6 rfl rfl)
theorem dX0_child_101 : decode cX0_child 101 = .ok (.goto (-82), 3) := dk_167 255 174 (dk_at dksX0_child_4 9 rfl rfl)
theorem dX0_child_104 : decode cX0_child 104 = .ok (.bipush (-2), 2) := dk_16 254 (dk_at dksX0_child_4 12 rfl rfl)
theorem dX0_child_106 : decode cX0_child 106 = .ok (.ireturn, 1) := dk_172 (dk_at dksX0_child_4 14 rfl rfl)
abbrev cX0_steps : ByteArray := prog_1_method_50_code
def yX0_steps : MethodName := ⟨RX0, "steps", "(II)I"⟩
def dkwX0_steps_1 : List UInt8 := [180, 0, 55, 27, 46, 16, 40, 162, 0, 12, 42, 180, 0, 55, 27, 46, 167, 0, 5, 16, 254, 172]
abbrev dktX0_steps_1 : List UInt8 := dkwX0_steps_1 ++ []
def dkwX0_steps_0 : List UInt8 := [42, 27, 182, 0, 110, 153, 0, 11, 42, 28, 182, 0, 110, 154, 0, 5, 2, 172, 42, 28, 182, 1, 154, 42]
abbrev dktX0_steps_0 : List UInt8 := dkwX0_steps_0 ++ dktX0_steps_1
theorem dksX0_steps_0 : cX0_steps.data.toList.drop 0 = dktX0_steps_0 := by decide +kernel
theorem dksX0_steps_1 : cX0_steps.data.toList.drop 24 = dktX0_steps_1 := dk_seg dksX0_steps_0 24 rfl rfl
theorem dX0_steps_0 : decode cX0_steps 0 = .ok (.aload_n 0, 1) := dk_42 (dk_at dksX0_steps_0 0 rfl rfl)
theorem dX0_steps_1 : decode cX0_steps 1 = .ok (.iload_n 1, 1) := dk_27 (dk_at dksX0_steps_0 1 rfl rfl)
theorem dX0_steps_2 : decode cX0_steps 2 = .ok (.invokevirtual 110, 3) := dk_182 0 110 (dk_at dksX0_steps_0 2 rfl rfl)
theorem dX0_steps_5 : decode cX0_steps 5 = .ok (.ifCond .eq 11, 3) := dk_153 0 11 (dk_at dksX0_steps_0 5 rfl rfl)
theorem dX0_steps_8 : decode cX0_steps 8 = .ok (.aload_n 0, 1) := dk_42 (dk_at dksX0_steps_0 8 rfl rfl)
theorem dX0_steps_9 : decode cX0_steps 9 = .ok (.iload_n 2, 1) := dk_28 (dk_at dksX0_steps_0 9 rfl rfl)
theorem dX0_steps_10 : decode cX0_steps 10 = .ok (.invokevirtual 110, 3) := dk_182 0 110 (dk_at dksX0_steps_0 10 rfl rfl)
theorem dX0_steps_13 : decode cX0_steps 13 = .ok (.ifCond .ne 5, 3) := dk_154 0 5 (dk_at dksX0_steps_0 13 rfl rfl)
theorem dX0_steps_16 : decode cX0_steps 16 = .ok (.iconst (-1), 1) := dk_2 (dk_at dksX0_steps_0 16 rfl rfl)
theorem dX0_steps_17 : decode cX0_steps 17 = .ok (.ireturn, 1) := dk_172 (dk_at dksX0_steps_0 17 rfl rfl)
theorem dX0_steps_18 : decode cX0_steps 18 = .ok (.aload_n 0, 1) := dk_42 (dk_at dksX0_steps_0 18 rfl rfl)
theorem dX0_steps_19 : decode cX0_steps 19 = .ok (.iload_n 2, 1) := dk_28 (dk_at dksX0_steps_0 19 rfl rfl)
theorem dX0_steps_20 : decode cX0_steps 20 = .ok (.invokevirtual 410, 3) := dk_182 1 154 (dk_at dksX0_steps_0 20 rfl rfl)
theorem dX0_steps_23 : decode cX0_steps 23 = .ok (.aload_n 0, 1) := dk_42 (dk_at dksX0_steps_0 23 rfl rfl)
theorem dX0_steps_24 : decode cX0_steps 24 = .ok (.getfield 55, 3) := dk_180 0 55 (dk_at dksX0_steps_1 0 rfl rfl)
theorem dX0_steps_27 : decode cX0_steps 27 = .ok (.iload_n 1, 1) := dk_27 (dk_at dksX0_steps_1 3 rfl rfl)
theorem dX0_steps_28 : decode cX0_steps 28 = .ok (.iaload, 1) := dk_46 (dk_at dksX0_steps_1 4 rfl rfl)
theorem dX0_steps_29 : decode cX0_steps 29 = .ok (.bipush 40, 2) := dk_16 40 (dk_at dksX0_steps_1 5 rfl rfl)
theorem dX0_steps_31 : decode cX0_steps 31 = .ok (.if_icmp .ge 12, 3) := dk_162 0 12 (dk_at dksX0_steps_1 7 rfl rfl)
theorem dX0_steps_34 : decode cX0_steps 34 = .ok (.aload_n 0, 1) := dk_42 (dk_at dksX0_steps_1 10 rfl rfl)
theorem dX0_steps_35 : decode cX0_steps 35 = .ok (.getfield 55, 3) := dk_180 0 55 (dk_at dksX0_steps_1 11 rfl rfl)
theorem dX0_steps_38 : decode cX0_steps 38 = .ok (.iload_n 1, 1) := dk_27 (dk_at dksX0_steps_1 14 rfl rfl)
theorem dX0_steps_39 : decode cX0_steps 39 = .ok (.iaload, 1) := dk_46 (dk_at dksX0_steps_1 15 rfl rfl)
theorem dX0_steps_40 : decode cX0_steps 40 = .ok (.goto 5, 3) := dk_167 0 5 (dk_at dksX0_steps_1 16 rfl rfl)
theorem dX0_steps_43 : decode cX0_steps 43 = .ok (.bipush (-2), 2) := dk_16 254 (dk_at dksX0_steps_1 19 rfl rfl)
theorem dX0_steps_45 : decode cX0_steps 45 = .ok (.ireturn, 1) := dk_172 (dk_at dksX0_steps_1 21 rfl rfl)
abbrev cX0_laysSteps : ByteArray := prog_1_method_49_code
def yX0_laysSteps : MethodName := ⟨RX0, "laysSteps", "(I)V"⟩
def dkwX0_laysSteps_4 : List UInt8 := [167, 255, 162, 177]
abbrev dktX0_laysSteps_4 : List UInt8 := dkwX0_laysSteps_4 ++ []
def dkwX0_laysSteps_3 : List UInt8 := [42, 180, 0, 55, 28, 28, 27, 160, 0, 7, 3, 167, 0, 9, 16, 40, 29, 184, 0, 233, 79, 132, 2, 1]
abbrev dktX0_laysSteps_3 : List UInt8 := dkwX0_laysSteps_3 ++ dktX0_laysSteps_4
def dkwX0_laysSteps_2 : List UInt8 := [29, 167, 0, 16, 29, 42, 180, 0, 55, 21, 5, 46, 4, 96, 184, 0, 233, 62, 132, 4, 1, 167, 255, 209]
abbrev dktX0_laysSteps_2 : List UInt8 := dkwX0_laysSteps_2 ++ dktX0_laysSteps_3
def dkwX0_laysSteps_1 : List UInt8 := [5, 162, 0, 47, 42, 180, 0, 32, 28, 182, 0, 116, 21, 4, 182, 1, 145, 54, 5, 21, 5, 156, 0, 7]
abbrev dktX0_laysSteps_1 : List UInt8 := dkwX0_laysSteps_1 ++ dktX0_laysSteps_2
def dkwX0_laysSteps_0 : List UInt8 := [3, 61, 28, 42, 180, 0, 32, 180, 0, 89, 182, 0, 92, 162, 0, 86, 16, 40, 62, 3, 54, 4, 21, 4]
abbrev dktX0_laysSteps_0 : List UInt8 := dkwX0_laysSteps_0 ++ dktX0_laysSteps_1
theorem dksX0_laysSteps_0 : cX0_laysSteps.data.toList.drop 0 = dktX0_laysSteps_0 := by decide +kernel
theorem dksX0_laysSteps_1 : cX0_laysSteps.data.toList.drop 24 = dktX0_laysSteps_1 := dk_seg dksX0_laysSteps_0 24 rfl rfl
theorem dksX0_laysSteps_2 : cX0_laysSteps.data.toList.drop 48 = dktX0_laysSteps_2 := dk_seg dksX0_laysSteps_1 24 rfl rfl
theorem dksX0_laysSteps_3 : cX0_laysSteps.data.toList.drop 72 = dktX0_laysSteps_3 := dk_seg dksX0_laysSteps_2 24 rfl rfl
theorem dksX0_laysSteps_4 : cX0_laysSteps.data.toList.drop 96 = dktX0_laysSteps_4 := dk_seg dksX0_laysSteps_3 24 rfl rfl
theorem dX0_laysSteps_0 : decode cX0_laysSteps 0 = .ok (.iconst 0, 1) := dk_3 (dk_at dksX0_laysSteps_0 0 rfl rfl)
theorem dX0_laysSteps_1 : decode cX0_laysSteps 1 = .ok (.istore_n 2, 1) := dk_61 (dk_at dksX0_laysSteps_0 1 rfl rfl)
theorem dX0_laysSteps_2 : decode cX0_laysSteps 2 = .ok (.iload_n 2, 1) := dk_28 (dk_at dksX0_laysSteps_0 2 rfl rfl)
theorem dX0_laysSteps_3 : decode cX0_laysSteps 3 = .ok (.aload_n 0, 1) := dk_42 (dk_at dksX0_laysSteps_0 3 rfl rfl)
theorem dX0_laysSteps_4 : decode cX0_laysSteps 4 = .ok (.getfield 32, 3) := dk_180 0 32 (dk_at dksX0_laysSteps_0 4 rfl rfl)
theorem dX0_laysSteps_7 : decode cX0_laysSteps 7 = .ok (.getfield 89, 3) := dk_180 0 89 (dk_at dksX0_laysSteps_0 7 rfl rfl)
theorem dX0_laysSteps_10 : decode cX0_laysSteps 10 = .ok (.invokevirtual 92, 3) := dk_182 0 92 (dk_at dksX0_laysSteps_0 10 rfl rfl)
theorem dX0_laysSteps_13 : decode cX0_laysSteps 13 = .ok (.if_icmp .ge 86, 3) := dk_162 0 86 (dk_at dksX0_laysSteps_0 13 rfl rfl)
theorem dX0_laysSteps_16 : decode cX0_laysSteps 16 = .ok (.bipush 40, 2) := dk_16 40 (dk_at dksX0_laysSteps_0 16 rfl rfl)
theorem dX0_laysSteps_18 : decode cX0_laysSteps 18 = .ok (.istore_n 3, 1) := dk_62 (dk_at dksX0_laysSteps_0 18 rfl rfl)
theorem dX0_laysSteps_19 : decode cX0_laysSteps 19 = .ok (.iconst 0, 1) := dk_3 (dk_at dksX0_laysSteps_0 19 rfl rfl)
theorem dX0_laysSteps_20 : decode cX0_laysSteps 20 = .ok (.istore 4, 2) := dk_54 4 (dk_at dksX0_laysSteps_0 20 rfl rfl)
theorem dX0_laysSteps_22 : decode cX0_laysSteps 22 = .ok (.iload 4, 2) := dk_21 4 (dk_at dksX0_laysSteps_0 22 rfl rfl)
theorem dX0_laysSteps_24 : decode cX0_laysSteps 24 = .ok (.iconst 2, 1) := dk_5 (dk_at dksX0_laysSteps_1 0 rfl rfl)
theorem dX0_laysSteps_25 : decode cX0_laysSteps 25 = .ok (.if_icmp .ge 47, 3) := dk_162 0 47 (dk_at dksX0_laysSteps_1 1 rfl rfl)
theorem dX0_laysSteps_28 : decode cX0_laysSteps 28 = .ok (.aload_n 0, 1) := dk_42 (dk_at dksX0_laysSteps_1 4 rfl rfl)
theorem dX0_laysSteps_29 : decode cX0_laysSteps 29 = .ok (.getfield 32, 3) := dk_180 0 32 (dk_at dksX0_laysSteps_1 5 rfl rfl)
theorem dX0_laysSteps_32 : decode cX0_laysSteps 32 = .ok (.iload_n 2, 1) := dk_28 (dk_at dksX0_laysSteps_1 8 rfl rfl)
theorem dX0_laysSteps_33 : decode cX0_laysSteps 33 = .ok (.invokevirtual 116, 3) := dk_182 0 116 (dk_at dksX0_laysSteps_1 9 rfl rfl)
theorem dX0_laysSteps_36 : decode cX0_laysSteps 36 = .ok (.iload 4, 2) := dk_21 4 (dk_at dksX0_laysSteps_1 12 rfl rfl)
theorem dX0_laysSteps_38 : decode cX0_laysSteps 38 = .ok (.invokevirtual 401, 3) := dk_182 1 145 (dk_at dksX0_laysSteps_1 14 rfl rfl)
theorem dX0_laysSteps_41 : decode cX0_laysSteps 41 = .ok (.istore 5, 2) := dk_54 5 (dk_at dksX0_laysSteps_1 17 rfl rfl)
theorem dX0_laysSteps_43 : decode cX0_laysSteps 43 = .ok (.iload 5, 2) := dk_21 5 (dk_at dksX0_laysSteps_1 19 rfl rfl)
theorem dX0_laysSteps_45 : decode cX0_laysSteps 45 = .ok (.ifCond .ge 7, 3) := dk_156 0 7 (dk_at dksX0_laysSteps_1 21 rfl rfl)
theorem dX0_laysSteps_48 : decode cX0_laysSteps 48 = .ok (.iload_n 3, 1) := dk_29 (dk_at dksX0_laysSteps_2 0 rfl rfl)
theorem dX0_laysSteps_49 : decode cX0_laysSteps 49 = .ok (.goto 16, 3) := dk_167 0 16 (dk_at dksX0_laysSteps_2 1 rfl rfl)
theorem dX0_laysSteps_52 : decode cX0_laysSteps 52 = .ok (.iload_n 3, 1) := dk_29 (dk_at dksX0_laysSteps_2 4 rfl rfl)
theorem dX0_laysSteps_53 : decode cX0_laysSteps 53 = .ok (.aload_n 0, 1) := dk_42 (dk_at dksX0_laysSteps_2 5 rfl rfl)
theorem dX0_laysSteps_54 : decode cX0_laysSteps 54 = .ok (.getfield 55, 3) := dk_180 0 55 (dk_at dksX0_laysSteps_2 6 rfl rfl)
theorem dX0_laysSteps_57 : decode cX0_laysSteps 57 = .ok (.iload 5, 2) := dk_21 5 (dk_at dksX0_laysSteps_2 9 rfl rfl)
theorem dX0_laysSteps_59 : decode cX0_laysSteps 59 = .ok (.iaload, 1) := dk_46 (dk_at dksX0_laysSteps_2 11 rfl rfl)
theorem dX0_laysSteps_60 : decode cX0_laysSteps 60 = .ok (.iconst 1, 1) := dk_4 (dk_at dksX0_laysSteps_2 12 rfl rfl)
theorem dX0_laysSteps_61 : decode cX0_laysSteps 61 = .ok (.iadd, 1) := dk_96 (dk_at dksX0_laysSteps_2 13 rfl rfl)
theorem dX0_laysSteps_62 : decode cX0_laysSteps 62 = .ok (.invokestatic 233, 3) := dk_184 0 233 (dk_at dksX0_laysSteps_2 14 rfl rfl)
theorem dX0_laysSteps_65 : decode cX0_laysSteps 65 = .ok (.istore_n 3, 1) := dk_62 (dk_at dksX0_laysSteps_2 17 rfl rfl)
theorem dX0_laysSteps_66 : decode cX0_laysSteps 66 = .ok (.iinc 4 1, 3) := dk_132 4 1 (dk_at dksX0_laysSteps_2 18 rfl rfl)
theorem dX0_laysSteps_69 : decode cX0_laysSteps 69 = .ok (.goto (-47), 3) := dk_167 255 209 (dk_at dksX0_laysSteps_2 21 rfl rfl)
theorem dX0_laysSteps_72 : decode cX0_laysSteps 72 = .ok (.aload_n 0, 1) := dk_42 (dk_at dksX0_laysSteps_3 0 rfl rfl)
theorem dX0_laysSteps_73 : decode cX0_laysSteps 73 = .ok (.getfield 55, 3) := dk_180 0 55 (dk_at dksX0_laysSteps_3 1 rfl rfl)
theorem dX0_laysSteps_76 : decode cX0_laysSteps 76 = .ok (.iload_n 2, 1) := dk_28 (dk_at dksX0_laysSteps_3 4 rfl rfl)
theorem dX0_laysSteps_77 : decode cX0_laysSteps 77 = .ok (.iload_n 2, 1) := dk_28 (dk_at dksX0_laysSteps_3 5 rfl rfl)
theorem dX0_laysSteps_78 : decode cX0_laysSteps 78 = .ok (.iload_n 1, 1) := dk_27 (dk_at dksX0_laysSteps_3 6 rfl rfl)
theorem dX0_laysSteps_79 : decode cX0_laysSteps 79 = .ok (.if_icmp .ne 7, 3) := dk_160 0 7 (dk_at dksX0_laysSteps_3 7 rfl rfl)
theorem dX0_laysSteps_82 : decode cX0_laysSteps 82 = .ok (.iconst 0, 1) := dk_3 (dk_at dksX0_laysSteps_3 10 rfl rfl)
theorem dX0_laysSteps_83 : decode cX0_laysSteps 83 = .ok (.goto 9, 3) := dk_167 0 9 (dk_at dksX0_laysSteps_3 11 rfl rfl)
theorem dX0_laysSteps_86 : decode cX0_laysSteps 86 = .ok (.bipush 40, 2) := dk_16 40 (dk_at dksX0_laysSteps_3 14 rfl rfl)
theorem dX0_laysSteps_88 : decode cX0_laysSteps 88 = .ok (.iload_n 3, 1) := dk_29 (dk_at dksX0_laysSteps_3 16 rfl rfl)
theorem dX0_laysSteps_89 : decode cX0_laysSteps 89 = .ok (.invokestatic 233, 3) := dk_184 0 233 (dk_at dksX0_laysSteps_3 17 rfl rfl)
theorem dX0_laysSteps_92 : decode cX0_laysSteps 92 = .ok (.iastore, 1) := dk_79 (dk_at dksX0_laysSteps_3 20 rfl rfl)
theorem dX0_laysSteps_93 : decode cX0_laysSteps 93 = .ok (.iinc 2 1, 3) := dk_132 2 1 (dk_at dksX0_laysSteps_3 21 rfl rfl)
theorem dX0_laysSteps_96 : decode cX0_laysSteps 96 = .ok (.goto (-94), 3) := dk_167 255 162 (dk_at dksX0_laysSteps_4 0 rfl rfl)
theorem dX0_laysSteps_99 : decode cX0_laysSteps 99 = .ok (.return_, 1) := dk_177 (dk_at dksX0_laysSteps_4 3 rfl rfl)
abbrev cX0_share : ByteArray := prog_1_method_51_code
def yX0_share : MethodName := ⟨RX0, "share", "(II)I"⟩
def dkwX0_share_1 : List UInt8 := [180, 0, 242, 28, 46, 167, 0, 4, 2, 172]
abbrev dktX0_share_1 : List UInt8 := dkwX0_share_1 ++ []
def dkwX0_share_0 : List UInt8 := [42, 27, 182, 0, 110, 153, 0, 27, 42, 28, 182, 0, 203, 153, 0, 19, 42, 180, 0, 32, 27, 182, 0, 238]
abbrev dktX0_share_0 : List UInt8 := dkwX0_share_0 ++ dktX0_share_1
theorem dksX0_share_0 : cX0_share.data.toList.drop 0 = dktX0_share_0 := by decide +kernel
theorem dksX0_share_1 : cX0_share.data.toList.drop 24 = dktX0_share_1 := dk_seg dksX0_share_0 24 rfl rfl
theorem dX0_share_0 : decode cX0_share 0 = .ok (.aload_n 0, 1) := dk_42 (dk_at dksX0_share_0 0 rfl rfl)
theorem dX0_share_1 : decode cX0_share 1 = .ok (.iload_n 1, 1) := dk_27 (dk_at dksX0_share_0 1 rfl rfl)
theorem dX0_share_2 : decode cX0_share 2 = .ok (.invokevirtual 110, 3) := dk_182 0 110 (dk_at dksX0_share_0 2 rfl rfl)
theorem dX0_share_5 : decode cX0_share 5 = .ok (.ifCond .eq 27, 3) := dk_153 0 27 (dk_at dksX0_share_0 5 rfl rfl)
theorem dX0_share_8 : decode cX0_share 8 = .ok (.aload_n 0, 1) := dk_42 (dk_at dksX0_share_0 8 rfl rfl)
theorem dX0_share_9 : decode cX0_share 9 = .ok (.iload_n 2, 1) := dk_28 (dk_at dksX0_share_0 9 rfl rfl)
theorem dX0_share_10 : decode cX0_share 10 = .ok (.invokevirtual 203, 3) := dk_182 0 203 (dk_at dksX0_share_0 10 rfl rfl)
theorem dX0_share_13 : decode cX0_share 13 = .ok (.ifCond .eq 19, 3) := dk_153 0 19 (dk_at dksX0_share_0 13 rfl rfl)
theorem dX0_share_16 : decode cX0_share 16 = .ok (.aload_n 0, 1) := dk_42 (dk_at dksX0_share_0 16 rfl rfl)
theorem dX0_share_17 : decode cX0_share 17 = .ok (.getfield 32, 3) := dk_180 0 32 (dk_at dksX0_share_0 17 rfl rfl)
theorem dX0_share_20 : decode cX0_share 20 = .ok (.iload_n 1, 1) := dk_27 (dk_at dksX0_share_0 20 rfl rfl)
theorem dX0_share_21 : decode cX0_share 21 = .ok (.invokevirtual 238, 3) := dk_182 0 238 (dk_at dksX0_share_0 21 rfl rfl)
theorem dX0_share_24 : decode cX0_share 24 = .ok (.getfield 242, 3) := dk_180 0 242 (dk_at dksX0_share_1 0 rfl rfl)
theorem dX0_share_27 : decode cX0_share 27 = .ok (.iload_n 2, 1) := dk_28 (dk_at dksX0_share_1 3 rfl rfl)
theorem dX0_share_28 : decode cX0_share 28 = .ok (.iaload, 1) := dk_46 (dk_at dksX0_share_1 4 rfl rfl)
theorem dX0_share_29 : decode cX0_share 29 = .ok (.goto 4, 3) := dk_167 0 4 (dk_at dksX0_share_1 5 rfl rfl)
theorem dX0_share_32 : decode cX0_share 32 = .ok (.iconst (-1), 1) := dk_2 (dk_at dksX0_share_1 8 rfl rfl)
theorem dX0_share_33 : decode cX0_share 33 = .ok (.ireturn, 1) := dk_172 (dk_at dksX0_share_1 9 rfl rfl)
abbrev cX0_shareOn : ByteArray := prog_1_method_52_code
def yX0_shareOn : MethodName := ⟨RX0, "shareOn", "(III)I"⟩
def dkwX0_shareOn_2 : List UInt8 := [167, 0, 10, 25, 4, 180, 0, 242, 28, 46, 172]
abbrev dktX0_shareOn_2 : List UInt8 := dkwX0_shareOn_2 ++ []
def dkwX0_shareOn_1 : List UInt8 := [154, 0, 5, 2, 172, 42, 180, 0, 32, 27, 29, 182, 1, 157, 58, 4, 25, 4, 199, 0, 8, 16, 254]
abbrev dktX0_shareOn_1 : List UInt8 := dkwX0_shareOn_1 ++ dktX0_shareOn_2
def dkwX0_shareOn_0 : List UInt8 := [42, 27, 182, 0, 110, 153, 0, 22, 42, 28, 182, 0, 203, 153, 0, 14, 29, 3, 17, 39, 15, 184, 0, 78]
abbrev dktX0_shareOn_0 : List UInt8 := dkwX0_shareOn_0 ++ dktX0_shareOn_1
theorem dksX0_shareOn_0 : cX0_shareOn.data.toList.drop 0 = dktX0_shareOn_0 := by decide +kernel
theorem dksX0_shareOn_1 : cX0_shareOn.data.toList.drop 24 = dktX0_shareOn_1 := dk_seg dksX0_shareOn_0 24 rfl rfl
theorem dksX0_shareOn_2 : cX0_shareOn.data.toList.drop 47 = dktX0_shareOn_2 := dk_seg dksX0_shareOn_1 23 rfl rfl
theorem dX0_shareOn_0 : decode cX0_shareOn 0 = .ok (.aload_n 0, 1) := dk_42 (dk_at dksX0_shareOn_0 0 rfl rfl)
theorem dX0_shareOn_1 : decode cX0_shareOn 1 = .ok (.iload_n 1, 1) := dk_27 (dk_at dksX0_shareOn_0 1 rfl rfl)
theorem dX0_shareOn_2 : decode cX0_shareOn 2 = .ok (.invokevirtual 110, 3) := dk_182 0 110 (dk_at dksX0_shareOn_0 2 rfl rfl)
theorem dX0_shareOn_5 : decode cX0_shareOn 5 = .ok (.ifCond .eq 22, 3) := dk_153 0 22 (dk_at dksX0_shareOn_0 5 rfl rfl)
theorem dX0_shareOn_8 : decode cX0_shareOn 8 = .ok (.aload_n 0, 1) := dk_42 (dk_at dksX0_shareOn_0 8 rfl rfl)
theorem dX0_shareOn_9 : decode cX0_shareOn 9 = .ok (.iload_n 2, 1) := dk_28 (dk_at dksX0_shareOn_0 9 rfl rfl)
theorem dX0_shareOn_10 : decode cX0_shareOn 10 = .ok (.invokevirtual 203, 3) := dk_182 0 203 (dk_at dksX0_shareOn_0 10 rfl rfl)
theorem dX0_shareOn_13 : decode cX0_shareOn 13 = .ok (.ifCond .eq 14, 3) := dk_153 0 14 (dk_at dksX0_shareOn_0 13 rfl rfl)
theorem dX0_shareOn_16 : decode cX0_shareOn 16 = .ok (.iload_n 3, 1) := dk_29 (dk_at dksX0_shareOn_0 16 rfl rfl)
theorem dX0_shareOn_17 : decode cX0_shareOn 17 = .ok (.iconst 0, 1) := dk_3 (dk_at dksX0_shareOn_0 17 rfl rfl)
theorem dX0_shareOn_18 : decode cX0_shareOn 18 = .ok (.sipush 9999, 3) := dk_17 39 15 (dk_at dksX0_shareOn_0 18 rfl rfl)
theorem dX0_shareOn_21 : decode cX0_shareOn 21 = .ok (.invokestatic 78, 3) := dk_184 0 78 (dk_at dksX0_shareOn_0 21 rfl rfl)
theorem dX0_shareOn_24 : decode cX0_shareOn 24 = .ok (.ifCond .ne 5, 3) := dk_154 0 5 (dk_at dksX0_shareOn_1 0 rfl rfl)
theorem dX0_shareOn_27 : decode cX0_shareOn 27 = .ok (.iconst (-1), 1) := dk_2 (dk_at dksX0_shareOn_1 3 rfl rfl)
theorem dX0_shareOn_28 : decode cX0_shareOn 28 = .ok (.ireturn, 1) := dk_172 (dk_at dksX0_shareOn_1 4 rfl rfl)
theorem dX0_shareOn_29 : decode cX0_shareOn 29 = .ok (.aload_n 0, 1) := dk_42 (dk_at dksX0_shareOn_1 5 rfl rfl)
theorem dX0_shareOn_30 : decode cX0_shareOn 30 = .ok (.getfield 32, 3) := dk_180 0 32 (dk_at dksX0_shareOn_1 6 rfl rfl)
theorem dX0_shareOn_33 : decode cX0_shareOn 33 = .ok (.iload_n 1, 1) := dk_27 (dk_at dksX0_shareOn_1 9 rfl rfl)
theorem dX0_shareOn_34 : decode cX0_shareOn 34 = .ok (.iload_n 3, 1) := dk_29 (dk_at dksX0_shareOn_1 10 rfl rfl)
theorem dX0_shareOn_35 : decode cX0_shareOn 35 = .ok (.invokevirtual 413, 3) := dk_182 1 157 (dk_at dksX0_shareOn_1 11 rfl rfl)
theorem dX0_shareOn_38 : decode cX0_shareOn 38 = .ok (.astore 4, 2) := dk_58 4 (dk_at dksX0_shareOn_1 14 rfl rfl)
theorem dX0_shareOn_40 : decode cX0_shareOn 40 = .ok (.aload 4, 2) := dk_25 4 (dk_at dksX0_shareOn_1 16 rfl rfl)
theorem dX0_shareOn_42 : decode cX0_shareOn 42 = .ok (.ifnonnull 8, 3) := dk_199 0 8 (dk_at dksX0_shareOn_1 18 rfl rfl)
theorem dX0_shareOn_45 : decode cX0_shareOn 45 = .ok (.bipush (-2), 2) := dk_16 254 (dk_at dksX0_shareOn_1 21 rfl rfl)
theorem dX0_shareOn_47 : decode cX0_shareOn 47 = .ok (.goto 10, 3) := dk_167 0 10 (dk_at dksX0_shareOn_2 0 rfl rfl)
theorem dX0_shareOn_50 : decode cX0_shareOn 50 = .ok (.aload 4, 2) := dk_25 4 (dk_at dksX0_shareOn_2 3 rfl rfl)
theorem dX0_shareOn_52 : decode cX0_shareOn 52 = .ok (.getfield 242, 3) := dk_180 0 242 (dk_at dksX0_shareOn_2 5 rfl rfl)
theorem dX0_shareOn_55 : decode cX0_shareOn 55 = .ok (.iload_n 2, 1) := dk_28 (dk_at dksX0_shareOn_2 8 rfl rfl)
theorem dX0_shareOn_56 : decode cX0_shareOn 56 = .ok (.iaload, 1) := dk_46 (dk_at dksX0_shareOn_2 9 rfl rfl)
theorem dX0_shareOn_57 : decode cX0_shareOn 57 = .ok (.ireturn, 1) := dk_172 (dk_at dksX0_shareOn_2 10 rfl rfl)
abbrev cX0_at : ByteArray := prog_1_method_53_code
def yX0_at : MethodName := ⟨RX0, "at", "(II)I"⟩
def dkwX0_at_0 : List UInt8 := [42, 27, 28, 182, 1, 8, 153, 0, 15, 42, 180, 0, 32, 27, 28, 182, 1, 12, 167, 0, 4, 2, 172]
abbrev dktX0_at_0 : List UInt8 := dkwX0_at_0 ++ []
theorem dksX0_at_0 : cX0_at.data.toList.drop 0 = dktX0_at_0 := by decide +kernel
theorem dX0_at_0 : decode cX0_at 0 = .ok (.aload_n 0, 1) := dk_42 (dk_at dksX0_at_0 0 rfl rfl)
theorem dX0_at_1 : decode cX0_at 1 = .ok (.iload_n 1, 1) := dk_27 (dk_at dksX0_at_0 1 rfl rfl)
theorem dX0_at_2 : decode cX0_at 2 = .ok (.iload_n 2, 1) := dk_28 (dk_at dksX0_at_0 2 rfl rfl)
theorem dX0_at_3 : decode cX0_at 3 = .ok (.invokevirtual 264, 3) := dk_182 1 8 (dk_at dksX0_at_0 3 rfl rfl)
theorem dX0_at_6 : decode cX0_at 6 = .ok (.ifCond .eq 15, 3) := dk_153 0 15 (dk_at dksX0_at_0 6 rfl rfl)
theorem dX0_at_9 : decode cX0_at 9 = .ok (.aload_n 0, 1) := dk_42 (dk_at dksX0_at_0 9 rfl rfl)
theorem dX0_at_10 : decode cX0_at 10 = .ok (.getfield 32, 3) := dk_180 0 32 (dk_at dksX0_at_0 10 rfl rfl)
theorem dX0_at_13 : decode cX0_at 13 = .ok (.iload_n 1, 1) := dk_27 (dk_at dksX0_at_0 13 rfl rfl)
theorem dX0_at_14 : decode cX0_at 14 = .ok (.iload_n 2, 1) := dk_28 (dk_at dksX0_at_0 14 rfl rfl)
theorem dX0_at_15 : decode cX0_at 15 = .ok (.invokevirtual 268, 3) := dk_182 1 12 (dk_at dksX0_at_0 15 rfl rfl)
theorem dX0_at_18 : decode cX0_at 18 = .ok (.goto 4, 3) := dk_167 0 4 (dk_at dksX0_at_0 18 rfl rfl)
theorem dX0_at_21 : decode cX0_at 21 = .ok (.iconst (-1), 1) := dk_2 (dk_at dksX0_at_0 21 rfl rfl)
theorem dX0_at_22 : decode cX0_at 22 = .ok (.ireturn, 1) := dk_172 (dk_at dksX0_at_0 22 rfl rfl)
abbrev cX0_atDay : ByteArray := prog_1_method_54_code
def yX0_atDay : MethodName := ⟨RX0, "atDay", "(III)I"⟩
def dkwX0_atDay_4 : List UInt8 := [172]
abbrev dktX0_atDay_4 : List UInt8 := dkwX0_atDay_4 ++ []
def dkwX0_atDay_3 : List UInt8 := [180, 1, 127, 29, 163, 0, 8, 21, 5, 167, 0, 5, 21, 4, 54, 4, 132, 5, 1, 167, 255, 196, 21, 4]
abbrev dktX0_atDay_3 : List UInt8 := dkwX0_atDay_3 ++ dktX0_atDay_4
def dkwX0_atDay_2 : List UInt8 := [21, 5, 182, 0, 116, 27, 28, 182, 1, 161, 153, 0, 24, 42, 180, 0, 32, 21, 5, 182, 0, 116]
abbrev dktX0_atDay_2 : List UInt8 := dkwX0_atDay_2 ++ dktX0_atDay_3
def dkwX0_atDay_1 : List UInt8 := [54, 4, 3, 54, 5, 21, 5, 42, 180, 0, 32, 180, 0, 89, 182, 0, 92, 162, 0, 51, 42, 180, 0, 32]
abbrev dktX0_atDay_1 : List UInt8 := dkwX0_atDay_1 ++ dktX0_atDay_2
def dkwX0_atDay_0 : List UInt8 := [42, 27, 28, 182, 1, 8, 153, 0, 14, 29, 3, 17, 39, 15, 184, 0, 78, 154, 0, 5, 2, 172, 3]
abbrev dktX0_atDay_0 : List UInt8 := dkwX0_atDay_0 ++ dktX0_atDay_1
theorem dksX0_atDay_0 : cX0_atDay.data.toList.drop 0 = dktX0_atDay_0 := by decide +kernel
theorem dksX0_atDay_1 : cX0_atDay.data.toList.drop 23 = dktX0_atDay_1 := dk_seg dksX0_atDay_0 23 rfl rfl
theorem dksX0_atDay_2 : cX0_atDay.data.toList.drop 47 = dktX0_atDay_2 := dk_seg dksX0_atDay_1 24 rfl rfl
theorem dksX0_atDay_3 : cX0_atDay.data.toList.drop 69 = dktX0_atDay_3 := dk_seg dksX0_atDay_2 22 rfl rfl
theorem dksX0_atDay_4 : cX0_atDay.data.toList.drop 93 = dktX0_atDay_4 := dk_seg dksX0_atDay_3 24 rfl rfl
theorem dX0_atDay_0 : decode cX0_atDay 0 = .ok (.aload_n 0, 1) := dk_42 (dk_at dksX0_atDay_0 0 rfl rfl)
theorem dX0_atDay_1 : decode cX0_atDay 1 = .ok (.iload_n 1, 1) := dk_27 (dk_at dksX0_atDay_0 1 rfl rfl)
theorem dX0_atDay_2 : decode cX0_atDay 2 = .ok (.iload_n 2, 1) := dk_28 (dk_at dksX0_atDay_0 2 rfl rfl)
theorem dX0_atDay_3 : decode cX0_atDay 3 = .ok (.invokevirtual 264, 3) := dk_182 1 8 (dk_at dksX0_atDay_0 3 rfl rfl)
theorem dX0_atDay_6 : decode cX0_atDay 6 = .ok (.ifCond .eq 14, 3) := dk_153 0 14 (dk_at dksX0_atDay_0 6 rfl rfl)
theorem dX0_atDay_9 : decode cX0_atDay 9 = .ok (.iload_n 3, 1) := dk_29 (dk_at dksX0_atDay_0 9 rfl rfl)
theorem dX0_atDay_10 : decode cX0_atDay 10 = .ok (.iconst 0, 1) := dk_3 (dk_at dksX0_atDay_0 10 rfl rfl)
theorem dX0_atDay_11 : decode cX0_atDay 11 = .ok (.sipush 9999, 3) := dk_17 39 15 (dk_at dksX0_atDay_0 11 rfl rfl)
theorem dX0_atDay_14 : decode cX0_atDay 14 = .ok (.invokestatic 78, 3) := dk_184 0 78 (dk_at dksX0_atDay_0 14 rfl rfl)
theorem dX0_atDay_17 : decode cX0_atDay 17 = .ok (.ifCond .ne 5, 3) := dk_154 0 5 (dk_at dksX0_atDay_0 17 rfl rfl)
theorem dX0_atDay_20 : decode cX0_atDay 20 = .ok (.iconst (-1), 1) := dk_2 (dk_at dksX0_atDay_0 20 rfl rfl)
theorem dX0_atDay_21 : decode cX0_atDay 21 = .ok (.ireturn, 1) := dk_172 (dk_at dksX0_atDay_0 21 rfl rfl)
theorem dX0_atDay_22 : decode cX0_atDay 22 = .ok (.iconst 0, 1) := dk_3 (dk_at dksX0_atDay_0 22 rfl rfl)
theorem dX0_atDay_23 : decode cX0_atDay 23 = .ok (.istore 4, 2) := dk_54 4 (dk_at dksX0_atDay_1 0 rfl rfl)
theorem dX0_atDay_25 : decode cX0_atDay 25 = .ok (.iconst 0, 1) := dk_3 (dk_at dksX0_atDay_1 2 rfl rfl)
theorem dX0_atDay_26 : decode cX0_atDay 26 = .ok (.istore 5, 2) := dk_54 5 (dk_at dksX0_atDay_1 3 rfl rfl)
theorem dX0_atDay_28 : decode cX0_atDay 28 = .ok (.iload 5, 2) := dk_21 5 (dk_at dksX0_atDay_1 5 rfl rfl)
theorem dX0_atDay_30 : decode cX0_atDay 30 = .ok (.aload_n 0, 1) := dk_42 (dk_at dksX0_atDay_1 7 rfl rfl)
theorem dX0_atDay_31 : decode cX0_atDay 31 = .ok (.getfield 32, 3) := dk_180 0 32 (dk_at dksX0_atDay_1 8 rfl rfl)
theorem dX0_atDay_34 : decode cX0_atDay 34 = .ok (.getfield 89, 3) := dk_180 0 89 (dk_at dksX0_atDay_1 11 rfl rfl)
theorem dX0_atDay_37 : decode cX0_atDay 37 = .ok (.invokevirtual 92, 3) := dk_182 0 92 (dk_at dksX0_atDay_1 14 rfl rfl)
theorem dX0_atDay_40 : decode cX0_atDay 40 = .ok (.if_icmp .ge 51, 3) := dk_162 0 51 (dk_at dksX0_atDay_1 17 rfl rfl)
theorem dX0_atDay_43 : decode cX0_atDay 43 = .ok (.aload_n 0, 1) := dk_42 (dk_at dksX0_atDay_1 20 rfl rfl)
theorem dX0_atDay_44 : decode cX0_atDay 44 = .ok (.getfield 32, 3) := dk_180 0 32 (dk_at dksX0_atDay_1 21 rfl rfl)
theorem dX0_atDay_47 : decode cX0_atDay 47 = .ok (.iload 5, 2) := dk_21 5 (dk_at dksX0_atDay_2 0 rfl rfl)
theorem dX0_atDay_49 : decode cX0_atDay 49 = .ok (.invokevirtual 116, 3) := dk_182 0 116 (dk_at dksX0_atDay_2 2 rfl rfl)
theorem dX0_atDay_52 : decode cX0_atDay 52 = .ok (.iload_n 1, 1) := dk_27 (dk_at dksX0_atDay_2 5 rfl rfl)
theorem dX0_atDay_53 : decode cX0_atDay 53 = .ok (.iload_n 2, 1) := dk_28 (dk_at dksX0_atDay_2 6 rfl rfl)
theorem dX0_atDay_54 : decode cX0_atDay 54 = .ok (.invokevirtual 417, 3) := dk_182 1 161 (dk_at dksX0_atDay_2 7 rfl rfl)
theorem dX0_atDay_57 : decode cX0_atDay 57 = .ok (.ifCond .eq 24, 3) := dk_153 0 24 (dk_at dksX0_atDay_2 10 rfl rfl)
theorem dX0_atDay_60 : decode cX0_atDay 60 = .ok (.aload_n 0, 1) := dk_42 (dk_at dksX0_atDay_2 13 rfl rfl)
theorem dX0_atDay_61 : decode cX0_atDay 61 = .ok (.getfield 32, 3) := dk_180 0 32 (dk_at dksX0_atDay_2 14 rfl rfl)
theorem dX0_atDay_64 : decode cX0_atDay 64 = .ok (.iload 5, 2) := dk_21 5 (dk_at dksX0_atDay_2 17 rfl rfl)
theorem dX0_atDay_66 : decode cX0_atDay 66 = .ok (.invokevirtual 116, 3) := dk_182 0 116 (dk_at dksX0_atDay_2 19 rfl rfl)
theorem dX0_atDay_69 : decode cX0_atDay 69 = .ok (.getfield 383, 3) := dk_180 1 127 (dk_at dksX0_atDay_3 0 rfl rfl)
theorem dX0_atDay_72 : decode cX0_atDay 72 = .ok (.iload_n 3, 1) := dk_29 (dk_at dksX0_atDay_3 3 rfl rfl)
theorem dX0_atDay_73 : decode cX0_atDay 73 = .ok (.if_icmp .gt 8, 3) := dk_163 0 8 (dk_at dksX0_atDay_3 4 rfl rfl)
theorem dX0_atDay_76 : decode cX0_atDay 76 = .ok (.iload 5, 2) := dk_21 5 (dk_at dksX0_atDay_3 7 rfl rfl)
theorem dX0_atDay_78 : decode cX0_atDay 78 = .ok (.goto 5, 3) := dk_167 0 5 (dk_at dksX0_atDay_3 9 rfl rfl)
theorem dX0_atDay_81 : decode cX0_atDay 81 = .ok (.iload 4, 2) := dk_21 4 (dk_at dksX0_atDay_3 12 rfl rfl)
theorem dX0_atDay_83 : decode cX0_atDay 83 = .ok (.istore 4, 2) := dk_54 4 (dk_at dksX0_atDay_3 14 rfl rfl)
theorem dX0_atDay_85 : decode cX0_atDay 85 = .ok (.iinc 5 1, 3) := dk_132 5 1 (dk_at dksX0_atDay_3 16 rfl rfl)
theorem dX0_atDay_88 : decode cX0_atDay 88 = .ok (.goto (-60), 3) := dk_167 255 196 (dk_at dksX0_atDay_3 19 rfl rfl)
theorem dX0_atDay_91 : decode cX0_atDay 91 = .ok (.iload 4, 2) := dk_21 4 (dk_at dksX0_atDay_3 22 rfl rfl)
theorem dX0_atDay_93 : decode cX0_atDay 93 = .ok (.ireturn, 1) := dk_172 (dk_at dksX0_atDay_4 0 rfl rfl)
abbrev cX0_neighbour : ByteArray := prog_1_method_55_code
def yX0_neighbour : MethodName := ⟨RX0, "neighbour", "(II)I"⟩
def dkwX0_neighbour_3 : List UInt8 := [132, 4, 1, 167, 255, 204, 16, 254, 172]
abbrev dktX0_neighbour_3 : List UInt8 := dkwX0_neighbour_3 ++ []
def dkwX0_neighbour_2 : List UInt8 := [153, 0, 10, 29, 154, 0, 6, 21, 4, 172, 29, 21, 5, 153, 0, 7, 4, 167, 0, 4, 3, 100, 62]
abbrev dktX0_neighbour_2 : List UInt8 := dkwX0_neighbour_2 ++ dktX0_neighbour_3
def dkwX0_neighbour_1 : List UInt8 := [180, 0, 32, 180, 0, 89, 182, 0, 92, 162, 0, 43, 42, 27, 21, 4, 182, 1, 76, 54, 5, 21, 5]
abbrev dktX0_neighbour_1 : List UInt8 := dkwX0_neighbour_1 ++ dktX0_neighbour_2
def dkwX0_neighbour_0 : List UInt8 := [42, 27, 182, 0, 110, 153, 0, 7, 28, 156, 0, 5, 2, 172, 28, 62, 3, 54, 4, 21, 4, 42]
abbrev dktX0_neighbour_0 : List UInt8 := dkwX0_neighbour_0 ++ dktX0_neighbour_1
theorem dksX0_neighbour_0 : cX0_neighbour.data.toList.drop 0 = dktX0_neighbour_0 := by decide +kernel
theorem dksX0_neighbour_1 : cX0_neighbour.data.toList.drop 22 = dktX0_neighbour_1 := dk_seg dksX0_neighbour_0 22 rfl rfl
theorem dksX0_neighbour_2 : cX0_neighbour.data.toList.drop 45 = dktX0_neighbour_2 := dk_seg dksX0_neighbour_1 23 rfl rfl
theorem dksX0_neighbour_3 : cX0_neighbour.data.toList.drop 68 = dktX0_neighbour_3 := dk_seg dksX0_neighbour_2 23 rfl rfl
theorem dX0_neighbour_0 : decode cX0_neighbour 0 = .ok (.aload_n 0, 1) := dk_42 (dk_at dksX0_neighbour_0 0 rfl rfl)
theorem dX0_neighbour_1 : decode cX0_neighbour 1 = .ok (.iload_n 1, 1) := dk_27 (dk_at dksX0_neighbour_0 1 rfl rfl)
theorem dX0_neighbour_2 : decode cX0_neighbour 2 = .ok (.invokevirtual 110, 3) := dk_182 0 110 (dk_at dksX0_neighbour_0 2 rfl rfl)
theorem dX0_neighbour_5 : decode cX0_neighbour 5 = .ok (.ifCond .eq 7, 3) := dk_153 0 7 (dk_at dksX0_neighbour_0 5 rfl rfl)
theorem dX0_neighbour_8 : decode cX0_neighbour 8 = .ok (.iload_n 2, 1) := dk_28 (dk_at dksX0_neighbour_0 8 rfl rfl)
theorem dX0_neighbour_9 : decode cX0_neighbour 9 = .ok (.ifCond .ge 5, 3) := dk_156 0 5 (dk_at dksX0_neighbour_0 9 rfl rfl)
theorem dX0_neighbour_12 : decode cX0_neighbour 12 = .ok (.iconst (-1), 1) := dk_2 (dk_at dksX0_neighbour_0 12 rfl rfl)
theorem dX0_neighbour_13 : decode cX0_neighbour 13 = .ok (.ireturn, 1) := dk_172 (dk_at dksX0_neighbour_0 13 rfl rfl)
theorem dX0_neighbour_14 : decode cX0_neighbour 14 = .ok (.iload_n 2, 1) := dk_28 (dk_at dksX0_neighbour_0 14 rfl rfl)
theorem dX0_neighbour_15 : decode cX0_neighbour 15 = .ok (.istore_n 3, 1) := dk_62 (dk_at dksX0_neighbour_0 15 rfl rfl)
theorem dX0_neighbour_16 : decode cX0_neighbour 16 = .ok (.iconst 0, 1) := dk_3 (dk_at dksX0_neighbour_0 16 rfl rfl)
theorem dX0_neighbour_17 : decode cX0_neighbour 17 = .ok (.istore 4, 2) := dk_54 4 (dk_at dksX0_neighbour_0 17 rfl rfl)
theorem dX0_neighbour_19 : decode cX0_neighbour 19 = .ok (.iload 4, 2) := dk_21 4 (dk_at dksX0_neighbour_0 19 rfl rfl)
theorem dX0_neighbour_21 : decode cX0_neighbour 21 = .ok (.aload_n 0, 1) := dk_42 (dk_at dksX0_neighbour_0 21 rfl rfl)
theorem dX0_neighbour_22 : decode cX0_neighbour 22 = .ok (.getfield 32, 3) := dk_180 0 32 (dk_at dksX0_neighbour_1 0 rfl rfl)
theorem dX0_neighbour_25 : decode cX0_neighbour 25 = .ok (.getfield 89, 3) := dk_180 0 89 (dk_at dksX0_neighbour_1 3 rfl rfl)
theorem dX0_neighbour_28 : decode cX0_neighbour 28 = .ok (.invokevirtual 92, 3) := dk_182 0 92 (dk_at dksX0_neighbour_1 6 rfl rfl)
theorem dX0_neighbour_31 : decode cX0_neighbour 31 = .ok (.if_icmp .ge 43, 3) := dk_162 0 43 (dk_at dksX0_neighbour_1 9 rfl rfl)
theorem dX0_neighbour_34 : decode cX0_neighbour 34 = .ok (.aload_n 0, 1) := dk_42 (dk_at dksX0_neighbour_1 12 rfl rfl)
theorem dX0_neighbour_35 : decode cX0_neighbour 35 = .ok (.iload_n 1, 1) := dk_27 (dk_at dksX0_neighbour_1 13 rfl rfl)
theorem dX0_neighbour_36 : decode cX0_neighbour 36 = .ok (.iload 4, 2) := dk_21 4 (dk_at dksX0_neighbour_1 14 rfl rfl)
theorem dX0_neighbour_38 : decode cX0_neighbour 38 = .ok (.invokevirtual 332, 3) := dk_182 1 76 (dk_at dksX0_neighbour_1 16 rfl rfl)
theorem dX0_neighbour_41 : decode cX0_neighbour 41 = .ok (.istore 5, 2) := dk_54 5 (dk_at dksX0_neighbour_1 19 rfl rfl)
theorem dX0_neighbour_43 : decode cX0_neighbour 43 = .ok (.iload 5, 2) := dk_21 5 (dk_at dksX0_neighbour_1 21 rfl rfl)
theorem dX0_neighbour_45 : decode cX0_neighbour 45 = .ok (.ifCond .eq 10, 3) := dk_153 0 10 (dk_at dksX0_neighbour_2 0 rfl rfl)
theorem dX0_neighbour_48 : decode cX0_neighbour 48 = .ok (.iload_n 3, 1) := dk_29 (dk_at dksX0_neighbour_2 3 rfl rfl)
theorem dX0_neighbour_49 : decode cX0_neighbour 49 = .ok (.ifCond .ne 6, 3) := dk_154 0 6 (dk_at dksX0_neighbour_2 4 rfl rfl)
theorem dX0_neighbour_52 : decode cX0_neighbour 52 = .ok (.iload 4, 2) := dk_21 4 (dk_at dksX0_neighbour_2 7 rfl rfl)
theorem dX0_neighbour_54 : decode cX0_neighbour 54 = .ok (.ireturn, 1) := dk_172 (dk_at dksX0_neighbour_2 9 rfl rfl)
theorem dX0_neighbour_55 : decode cX0_neighbour 55 = .ok (.iload_n 3, 1) := dk_29 (dk_at dksX0_neighbour_2 10 rfl rfl)
theorem dX0_neighbour_56 : decode cX0_neighbour 56 = .ok (.iload 5, 2) := dk_21 5 (dk_at dksX0_neighbour_2 11 rfl rfl)
theorem dX0_neighbour_58 : decode cX0_neighbour 58 = .ok (.ifCond .eq 7, 3) := dk_153 0 7 (dk_at dksX0_neighbour_2 13 rfl rfl)
theorem dX0_neighbour_61 : decode cX0_neighbour 61 = .ok (.iconst 1, 1) := dk_4 (dk_at dksX0_neighbour_2 16 rfl rfl)
theorem dX0_neighbour_62 : decode cX0_neighbour 62 = .ok (.goto 4, 3) := dk_167 0 4 (dk_at dksX0_neighbour_2 17 rfl rfl)
theorem dX0_neighbour_65 : decode cX0_neighbour 65 = .ok (.iconst 0, 1) := dk_3 (dk_at dksX0_neighbour_2 20 rfl rfl)
theorem dX0_neighbour_66 : decode cX0_neighbour 66 = .ok (.isub, 1) := dk_100 (dk_at dksX0_neighbour_2 21 rfl rfl)
theorem dX0_neighbour_67 : decode cX0_neighbour 67 = .ok (.istore_n 3, 1) := dk_62 (dk_at dksX0_neighbour_2 22 rfl rfl)
theorem dX0_neighbour_68 : decode cX0_neighbour 68 = .ok (.iinc 4 1, 3) := dk_132 4 1 (dk_at dksX0_neighbour_3 0 rfl rfl)
theorem dX0_neighbour_71 : decode cX0_neighbour 71 = .ok (.goto (-52), 3) := dk_167 255 204 (dk_at dksX0_neighbour_3 3 rfl rfl)
theorem dX0_neighbour_74 : decode cX0_neighbour 74 = .ok (.bipush (-2), 2) := dk_16 254 (dk_at dksX0_neighbour_3 6 rfl rfl)
theorem dX0_neighbour_76 : decode cX0_neighbour 76 = .ok (.ireturn, 1) := dk_172 (dk_at dksX0_neighbour_3 8 rfl rfl)
abbrev cX0_edge : ByteArray := prog_1_method_56_code
def yX0_edge : MethodName := ⟨RX0, "edge", "(II)I"⟩
def dkwX0_edge_1 : List UInt8 := [42, 180, 0, 32, 28, 182, 0, 116, 182, 1, 72, 167, 0, 4, 2, 172]
abbrev dktX0_edge_1 : List UInt8 := dkwX0_edge_1 ++ []
def dkwX0_edge_0 : List UInt8 := [42, 27, 182, 0, 110, 153, 0, 33, 42, 28, 182, 0, 110, 153, 0, 25, 42, 180, 0, 32, 27, 182, 0, 116]
abbrev dktX0_edge_0 : List UInt8 := dkwX0_edge_0 ++ dktX0_edge_1
theorem dksX0_edge_0 : cX0_edge.data.toList.drop 0 = dktX0_edge_0 := by decide +kernel
theorem dksX0_edge_1 : cX0_edge.data.toList.drop 24 = dktX0_edge_1 := dk_seg dksX0_edge_0 24 rfl rfl
theorem dX0_edge_0 : decode cX0_edge 0 = .ok (.aload_n 0, 1) := dk_42 (dk_at dksX0_edge_0 0 rfl rfl)
theorem dX0_edge_1 : decode cX0_edge 1 = .ok (.iload_n 1, 1) := dk_27 (dk_at dksX0_edge_0 1 rfl rfl)
theorem dX0_edge_2 : decode cX0_edge 2 = .ok (.invokevirtual 110, 3) := dk_182 0 110 (dk_at dksX0_edge_0 2 rfl rfl)
theorem dX0_edge_5 : decode cX0_edge 5 = .ok (.ifCond .eq 33, 3) := dk_153 0 33 (dk_at dksX0_edge_0 5 rfl rfl)
theorem dX0_edge_8 : decode cX0_edge 8 = .ok (.aload_n 0, 1) := dk_42 (dk_at dksX0_edge_0 8 rfl rfl)
theorem dX0_edge_9 : decode cX0_edge 9 = .ok (.iload_n 2, 1) := dk_28 (dk_at dksX0_edge_0 9 rfl rfl)
theorem dX0_edge_10 : decode cX0_edge 10 = .ok (.invokevirtual 110, 3) := dk_182 0 110 (dk_at dksX0_edge_0 10 rfl rfl)
theorem dX0_edge_13 : decode cX0_edge 13 = .ok (.ifCond .eq 25, 3) := dk_153 0 25 (dk_at dksX0_edge_0 13 rfl rfl)
theorem dX0_edge_16 : decode cX0_edge 16 = .ok (.aload_n 0, 1) := dk_42 (dk_at dksX0_edge_0 16 rfl rfl)
theorem dX0_edge_17 : decode cX0_edge 17 = .ok (.getfield 32, 3) := dk_180 0 32 (dk_at dksX0_edge_0 17 rfl rfl)
theorem dX0_edge_20 : decode cX0_edge 20 = .ok (.iload_n 1, 1) := dk_27 (dk_at dksX0_edge_0 20 rfl rfl)
theorem dX0_edge_21 : decode cX0_edge 21 = .ok (.invokevirtual 116, 3) := dk_182 0 116 (dk_at dksX0_edge_0 21 rfl rfl)
theorem dX0_edge_24 : decode cX0_edge 24 = .ok (.aload_n 0, 1) := dk_42 (dk_at dksX0_edge_1 0 rfl rfl)
theorem dX0_edge_25 : decode cX0_edge 25 = .ok (.getfield 32, 3) := dk_180 0 32 (dk_at dksX0_edge_1 1 rfl rfl)
theorem dX0_edge_28 : decode cX0_edge 28 = .ok (.iload_n 2, 1) := dk_28 (dk_at dksX0_edge_1 4 rfl rfl)
theorem dX0_edge_29 : decode cX0_edge 29 = .ok (.invokevirtual 116, 3) := dk_182 0 116 (dk_at dksX0_edge_1 5 rfl rfl)
theorem dX0_edge_32 : decode cX0_edge 32 = .ok (.invokevirtual 328, 3) := dk_182 1 72 (dk_at dksX0_edge_1 8 rfl rfl)
theorem dX0_edge_35 : decode cX0_edge 35 = .ok (.goto 4, 3) := dk_167 0 4 (dk_at dksX0_edge_1 11 rfl rfl)
theorem dX0_edge_38 : decode cX0_edge 38 = .ok (.iconst (-1), 1) := dk_2 (dk_at dksX0_edge_1 14 rfl rfl)
theorem dX0_edge_39 : decode cX0_edge 39 = .ok (.ireturn, 1) := dk_172 (dk_at dksX0_edge_1 15 rfl rfl)
abbrev cX0_letter : ByteArray := prog_1_method_57_code
def yX0_letter : MethodName := ⟨RX0, "letter", "(II)I"⟩
def dkwX0_letter_2 : List UInt8 := [96, 167, 0, 5, 16, 254, 172]
abbrev dktX0_letter_2 : List UInt8 := dkwX0_letter_2 ++ []
def dkwX0_letter_1 : List UInt8 := [182, 1, 164, 192, 0, 132, 78, 28, 45, 182, 0, 157, 162, 0, 16, 45, 28, 182, 1, 168, 16, 97, 100, 4]
abbrev dktX0_letter_1 : List UInt8 := dkwX0_letter_1 ++ dktX0_letter_2
def dkwX0_letter_0 : List UInt8 := [42, 27, 182, 0, 203, 153, 0, 7, 28, 156, 0, 5, 2, 172, 42, 180, 0, 32, 180, 0, 7, 27]
abbrev dktX0_letter_0 : List UInt8 := dkwX0_letter_0 ++ dktX0_letter_1
theorem dksX0_letter_0 : cX0_letter.data.toList.drop 0 = dktX0_letter_0 := by decide +kernel
theorem dksX0_letter_1 : cX0_letter.data.toList.drop 22 = dktX0_letter_1 := dk_seg dksX0_letter_0 22 rfl rfl
theorem dksX0_letter_2 : cX0_letter.data.toList.drop 46 = dktX0_letter_2 := dk_seg dksX0_letter_1 24 rfl rfl
theorem dX0_letter_0 : decode cX0_letter 0 = .ok (.aload_n 0, 1) := dk_42 (dk_at dksX0_letter_0 0 rfl rfl)
theorem dX0_letter_1 : decode cX0_letter 1 = .ok (.iload_n 1, 1) := dk_27 (dk_at dksX0_letter_0 1 rfl rfl)
theorem dX0_letter_2 : decode cX0_letter 2 = .ok (.invokevirtual 203, 3) := dk_182 0 203 (dk_at dksX0_letter_0 2 rfl rfl)
theorem dX0_letter_5 : decode cX0_letter 5 = .ok (.ifCond .eq 7, 3) := dk_153 0 7 (dk_at dksX0_letter_0 5 rfl rfl)
theorem dX0_letter_8 : decode cX0_letter 8 = .ok (.iload_n 2, 1) := dk_28 (dk_at dksX0_letter_0 8 rfl rfl)
theorem dX0_letter_9 : decode cX0_letter 9 = .ok (.ifCond .ge 5, 3) := dk_156 0 5 (dk_at dksX0_letter_0 9 rfl rfl)
theorem dX0_letter_12 : decode cX0_letter 12 = .ok (.iconst (-1), 1) := dk_2 (dk_at dksX0_letter_0 12 rfl rfl)
theorem dX0_letter_13 : decode cX0_letter 13 = .ok (.ireturn, 1) := dk_172 (dk_at dksX0_letter_0 13 rfl rfl)
theorem dX0_letter_14 : decode cX0_letter 14 = .ok (.aload_n 0, 1) := dk_42 (dk_at dksX0_letter_0 14 rfl rfl)
theorem dX0_letter_15 : decode cX0_letter 15 = .ok (.getfield 32, 3) := dk_180 0 32 (dk_at dksX0_letter_0 15 rfl rfl)
theorem dX0_letter_18 : decode cX0_letter 18 = .ok (.getfield 7, 3) := dk_180 0 7 (dk_at dksX0_letter_0 18 rfl rfl)
theorem dX0_letter_21 : decode cX0_letter 21 = .ok (.iload_n 1, 1) := dk_27 (dk_at dksX0_letter_0 21 rfl rfl)
theorem dX0_letter_22 : decode cX0_letter 22 = .ok (.invokevirtual 420, 3) := dk_182 1 164 (dk_at dksX0_letter_1 0 rfl rfl)
theorem dX0_letter_25 : decode cX0_letter 25 = .ok (.checkcast 132, 3) := dk_192 0 132 (dk_at dksX0_letter_1 3 rfl rfl)
theorem dX0_letter_28 : decode cX0_letter 28 = .ok (.astore_n 3, 1) := dk_78 (dk_at dksX0_letter_1 6 rfl rfl)
theorem dX0_letter_29 : decode cX0_letter 29 = .ok (.iload_n 2, 1) := dk_28 (dk_at dksX0_letter_1 7 rfl rfl)
theorem dX0_letter_30 : decode cX0_letter 30 = .ok (.aload_n 3, 1) := dk_45 (dk_at dksX0_letter_1 8 rfl rfl)
theorem dX0_letter_31 : decode cX0_letter 31 = .ok (.invokevirtual 157, 3) := dk_182 0 157 (dk_at dksX0_letter_1 9 rfl rfl)
theorem dX0_letter_34 : decode cX0_letter 34 = .ok (.if_icmp .ge 16, 3) := dk_162 0 16 (dk_at dksX0_letter_1 12 rfl rfl)
theorem dX0_letter_37 : decode cX0_letter 37 = .ok (.aload_n 3, 1) := dk_45 (dk_at dksX0_letter_1 15 rfl rfl)
theorem dX0_letter_38 : decode cX0_letter 38 = .ok (.iload_n 2, 1) := dk_28 (dk_at dksX0_letter_1 16 rfl rfl)
theorem dX0_letter_39 : decode cX0_letter 39 = .ok (.invokevirtual 424, 3) := dk_182 1 168 (dk_at dksX0_letter_1 17 rfl rfl)
theorem dX0_letter_42 : decode cX0_letter 42 = .ok (.bipush 97, 2) := dk_16 97 (dk_at dksX0_letter_1 20 rfl rfl)
theorem dX0_letter_44 : decode cX0_letter 44 = .ok (.isub, 1) := dk_100 (dk_at dksX0_letter_1 22 rfl rfl)
theorem dX0_letter_45 : decode cX0_letter 45 = .ok (.iconst 1, 1) := dk_4 (dk_at dksX0_letter_1 23 rfl rfl)
theorem dX0_letter_46 : decode cX0_letter 46 = .ok (.iadd, 1) := dk_96 (dk_at dksX0_letter_2 0 rfl rfl)
theorem dX0_letter_47 : decode cX0_letter 47 = .ok (.goto 5, 3) := dk_167 0 5 (dk_at dksX0_letter_2 1 rfl rfl)
theorem dX0_letter_50 : decode cX0_letter 50 = .ok (.bipush (-2), 2) := dk_16 254 (dk_at dksX0_letter_2 4 rfl rfl)
theorem dX0_letter_52 : decode cX0_letter 52 = .ok (.ireturn, 1) := dk_172 (dk_at dksX0_letter_2 6 rfl rfl)
abbrev cX0_owned : ByteArray := prog_1_method_60_code
def yX0_owned : MethodName := ⟨RX0, "owned", "(II)I"⟩
def dkwX0_owned_1 : List UInt8 := [42, 27, 182, 1, 175, 167, 0, 9, 42, 27, 28, 182, 1, 178, 172]
abbrev dktX0_owned_1 : List UInt8 := dkwX0_owned_1 ++ []
def dkwX0_owned_0 : List UInt8 := [42, 27, 182, 0, 203, 153, 0, 12, 28, 3, 6, 184, 0, 78, 154, 0, 5, 2, 172, 28, 6, 160, 0, 11]
abbrev dktX0_owned_0 : List UInt8 := dkwX0_owned_0 ++ dktX0_owned_1
theorem dksX0_owned_0 : cX0_owned.data.toList.drop 0 = dktX0_owned_0 := by decide +kernel
theorem dksX0_owned_1 : cX0_owned.data.toList.drop 24 = dktX0_owned_1 := dk_seg dksX0_owned_0 24 rfl rfl
theorem dX0_owned_0 : decode cX0_owned 0 = .ok (.aload_n 0, 1) := dk_42 (dk_at dksX0_owned_0 0 rfl rfl)
theorem dX0_owned_1 : decode cX0_owned 1 = .ok (.iload_n 1, 1) := dk_27 (dk_at dksX0_owned_0 1 rfl rfl)
theorem dX0_owned_2 : decode cX0_owned 2 = .ok (.invokevirtual 203, 3) := dk_182 0 203 (dk_at dksX0_owned_0 2 rfl rfl)
theorem dX0_owned_5 : decode cX0_owned 5 = .ok (.ifCond .eq 12, 3) := dk_153 0 12 (dk_at dksX0_owned_0 5 rfl rfl)
theorem dX0_owned_8 : decode cX0_owned 8 = .ok (.iload_n 2, 1) := dk_28 (dk_at dksX0_owned_0 8 rfl rfl)
theorem dX0_owned_9 : decode cX0_owned 9 = .ok (.iconst 0, 1) := dk_3 (dk_at dksX0_owned_0 9 rfl rfl)
theorem dX0_owned_10 : decode cX0_owned 10 = .ok (.iconst 3, 1) := dk_6 (dk_at dksX0_owned_0 10 rfl rfl)
theorem dX0_owned_11 : decode cX0_owned 11 = .ok (.invokestatic 78, 3) := dk_184 0 78 (dk_at dksX0_owned_0 11 rfl rfl)
theorem dX0_owned_14 : decode cX0_owned 14 = .ok (.ifCond .ne 5, 3) := dk_154 0 5 (dk_at dksX0_owned_0 14 rfl rfl)
theorem dX0_owned_17 : decode cX0_owned 17 = .ok (.iconst (-1), 1) := dk_2 (dk_at dksX0_owned_0 17 rfl rfl)
theorem dX0_owned_18 : decode cX0_owned 18 = .ok (.ireturn, 1) := dk_172 (dk_at dksX0_owned_0 18 rfl rfl)
theorem dX0_owned_19 : decode cX0_owned 19 = .ok (.iload_n 2, 1) := dk_28 (dk_at dksX0_owned_0 19 rfl rfl)
theorem dX0_owned_20 : decode cX0_owned 20 = .ok (.iconst 3, 1) := dk_6 (dk_at dksX0_owned_0 20 rfl rfl)
theorem dX0_owned_21 : decode cX0_owned 21 = .ok (.if_icmp .ne 11, 3) := dk_160 0 11 (dk_at dksX0_owned_0 21 rfl rfl)
theorem dX0_owned_24 : decode cX0_owned 24 = .ok (.aload_n 0, 1) := dk_42 (dk_at dksX0_owned_1 0 rfl rfl)
theorem dX0_owned_25 : decode cX0_owned 25 = .ok (.iload_n 1, 1) := dk_27 (dk_at dksX0_owned_1 1 rfl rfl)
theorem dX0_owned_26 : decode cX0_owned 26 = .ok (.invokevirtual 431, 3) := dk_182 1 175 (dk_at dksX0_owned_1 2 rfl rfl)
theorem dX0_owned_29 : decode cX0_owned 29 = .ok (.goto 9, 3) := dk_167 0 9 (dk_at dksX0_owned_1 5 rfl rfl)
theorem dX0_owned_32 : decode cX0_owned 32 = .ok (.aload_n 0, 1) := dk_42 (dk_at dksX0_owned_1 8 rfl rfl)
theorem dX0_owned_33 : decode cX0_owned 33 = .ok (.iload_n 1, 1) := dk_27 (dk_at dksX0_owned_1 9 rfl rfl)
theorem dX0_owned_34 : decode cX0_owned 34 = .ok (.iload_n 2, 1) := dk_28 (dk_at dksX0_owned_1 10 rfl rfl)
theorem dX0_owned_35 : decode cX0_owned 35 = .ok (.invokevirtual 434, 3) := dk_182 1 178 (dk_at dksX0_owned_1 11 rfl rfl)
theorem dX0_owned_38 : decode cX0_owned 38 = .ok (.ireturn, 1) := dk_172 (dk_at dksX0_owned_1 14 rfl rfl)
abbrev cX0_held : ByteArray := prog_1_method_58_code
def yX0_held : MethodName := ⟨RX0, "held", "(I)I"⟩
def dkwX0_held_3 : List UInt8 := [28, 172]
abbrev dktX0_held_3 : List UInt8 := dkwX0_held_3 ++ []
def dkwX0_held_2 : List UInt8 := [180, 1, 172, 27, 160, 0, 11, 25, 4, 180, 1, 31, 167, 0, 4, 3, 96, 61, 132, 3, 1, 167, 255, 193]
abbrev dktX0_held_2 : List UInt8 := dkwX0_held_2 ++ dktX0_held_3
def dkwX0_held_1 : List UInt8 := [182, 1, 24, 58, 5, 25, 5, 193, 0, 254, 153, 0, 27, 25, 5, 192, 0, 254, 58, 4, 25, 4]
abbrev dktX0_held_1 : List UInt8 := dkwX0_held_1 ++ dktX0_held_2
def dkwX0_held_0 : List UInt8 := [3, 61, 3, 62, 29, 42, 180, 0, 32, 180, 0, 97, 182, 0, 92, 162, 0, 55, 28, 42, 180, 0, 32, 29]
abbrev dktX0_held_0 : List UInt8 := dkwX0_held_0 ++ dktX0_held_1
theorem dksX0_held_0 : cX0_held.data.toList.drop 0 = dktX0_held_0 := by decide +kernel
theorem dksX0_held_1 : cX0_held.data.toList.drop 24 = dktX0_held_1 := dk_seg dksX0_held_0 24 rfl rfl
theorem dksX0_held_2 : cX0_held.data.toList.drop 46 = dktX0_held_2 := dk_seg dksX0_held_1 22 rfl rfl
theorem dksX0_held_3 : cX0_held.data.toList.drop 70 = dktX0_held_3 := dk_seg dksX0_held_2 24 rfl rfl
theorem dX0_held_0 : decode cX0_held 0 = .ok (.iconst 0, 1) := dk_3 (dk_at dksX0_held_0 0 rfl rfl)
theorem dX0_held_1 : decode cX0_held 1 = .ok (.istore_n 2, 1) := dk_61 (dk_at dksX0_held_0 1 rfl rfl)
theorem dX0_held_2 : decode cX0_held 2 = .ok (.iconst 0, 1) := dk_3 (dk_at dksX0_held_0 2 rfl rfl)
theorem dX0_held_3 : decode cX0_held 3 = .ok (.istore_n 3, 1) := dk_62 (dk_at dksX0_held_0 3 rfl rfl)
theorem dX0_held_4 : decode cX0_held 4 = .ok (.iload_n 3, 1) := dk_29 (dk_at dksX0_held_0 4 rfl rfl)
theorem dX0_held_5 : decode cX0_held 5 = .ok (.aload_n 0, 1) := dk_42 (dk_at dksX0_held_0 5 rfl rfl)
theorem dX0_held_6 : decode cX0_held 6 = .ok (.getfield 32, 3) := dk_180 0 32 (dk_at dksX0_held_0 6 rfl rfl)
theorem dX0_held_9 : decode cX0_held 9 = .ok (.getfield 97, 3) := dk_180 0 97 (dk_at dksX0_held_0 9 rfl rfl)
theorem dX0_held_12 : decode cX0_held 12 = .ok (.invokevirtual 92, 3) := dk_182 0 92 (dk_at dksX0_held_0 12 rfl rfl)
theorem dX0_held_15 : decode cX0_held 15 = .ok (.if_icmp .ge 55, 3) := dk_162 0 55 (dk_at dksX0_held_0 15 rfl rfl)
theorem dX0_held_18 : decode cX0_held 18 = .ok (.iload_n 2, 1) := dk_28 (dk_at dksX0_held_0 18 rfl rfl)
theorem dX0_held_19 : decode cX0_held 19 = .ok (.aload_n 0, 1) := dk_42 (dk_at dksX0_held_0 19 rfl rfl)
theorem dX0_held_20 : decode cX0_held 20 = .ok (.getfield 32, 3) := dk_180 0 32 (dk_at dksX0_held_0 20 rfl rfl)
theorem dX0_held_23 : decode cX0_held 23 = .ok (.iload_n 3, 1) := dk_29 (dk_at dksX0_held_0 23 rfl rfl)
theorem dX0_held_24 : decode cX0_held 24 = .ok (.invokevirtual 280, 3) := dk_182 1 24 (dk_at dksX0_held_1 0 rfl rfl)
theorem dX0_held_27 : decode cX0_held 27 = .ok (.astore 5, 2) := dk_58 5 (dk_at dksX0_held_1 3 rfl rfl)
theorem dX0_held_29 : decode cX0_held 29 = .ok (.aload 5, 2) := dk_25 5 (dk_at dksX0_held_1 5 rfl rfl)
theorem dX0_held_31 : decode cX0_held 31 = .ok (.instanceof 254, 3) := dk_193 0 254 (dk_at dksX0_held_1 7 rfl rfl)
theorem dX0_held_34 : decode cX0_held 34 = .ok (.ifCond .eq 27, 3) := dk_153 0 27 (dk_at dksX0_held_1 10 rfl rfl)
theorem dX0_held_37 : decode cX0_held 37 = .ok (.aload 5, 2) := dk_25 5 (dk_at dksX0_held_1 13 rfl rfl)
theorem dX0_held_39 : decode cX0_held 39 = .ok (.checkcast 254, 3) := dk_192 0 254 (dk_at dksX0_held_1 15 rfl rfl)
theorem dX0_held_42 : decode cX0_held 42 = .ok (.astore 4, 2) := dk_58 4 (dk_at dksX0_held_1 18 rfl rfl)
theorem dX0_held_44 : decode cX0_held 44 = .ok (.aload 4, 2) := dk_25 4 (dk_at dksX0_held_1 20 rfl rfl)
theorem dX0_held_46 : decode cX0_held 46 = .ok (.getfield 428, 3) := dk_180 1 172 (dk_at dksX0_held_2 0 rfl rfl)
theorem dX0_held_49 : decode cX0_held 49 = .ok (.iload_n 1, 1) := dk_27 (dk_at dksX0_held_2 3 rfl rfl)
theorem dX0_held_50 : decode cX0_held 50 = .ok (.if_icmp .ne 11, 3) := dk_160 0 11 (dk_at dksX0_held_2 4 rfl rfl)
theorem dX0_held_53 : decode cX0_held 53 = .ok (.aload 4, 2) := dk_25 4 (dk_at dksX0_held_2 7 rfl rfl)
theorem dX0_held_55 : decode cX0_held 55 = .ok (.getfield 287, 3) := dk_180 1 31 (dk_at dksX0_held_2 9 rfl rfl)
theorem dX0_held_58 : decode cX0_held 58 = .ok (.goto 4, 3) := dk_167 0 4 (dk_at dksX0_held_2 12 rfl rfl)
theorem dX0_held_61 : decode cX0_held 61 = .ok (.iconst 0, 1) := dk_3 (dk_at dksX0_held_2 15 rfl rfl)
theorem dX0_held_62 : decode cX0_held 62 = .ok (.iadd, 1) := dk_96 (dk_at dksX0_held_2 16 rfl rfl)
theorem dX0_held_63 : decode cX0_held 63 = .ok (.istore_n 2, 1) := dk_61 (dk_at dksX0_held_2 17 rfl rfl)
theorem dX0_held_64 : decode cX0_held 64 = .ok (.iinc 3 1, 3) := dk_132 3 1 (dk_at dksX0_held_2 18 rfl rfl)
theorem dX0_held_67 : decode cX0_held 67 = .ok (.goto (-63), 3) := dk_167 255 193 (dk_at dksX0_held_2 21 rfl rfl)
theorem dX0_held_70 : decode cX0_held 70 = .ok (.iload_n 2, 1) := dk_28 (dk_at dksX0_held_3 0 rfl rfl)
theorem dX0_held_71 : decode cX0_held 71 = .ok (.ireturn, 1) := dk_172 (dk_at dksX0_held_3 1 rfl rfl)
abbrev cX0_over : ByteArray := prog_1_method_59_code
def yX0_over : MethodName := ⟨RX0, "over", "(II)I"⟩
def dkwX0_over_4 : List UInt8 := [167, 0, 4, 3, 96, 62, 132, 4, 1, 167, 255, 157, 29, 172]
abbrev dktX0_over_4 : List UInt8 := dkwX0_over_4 ++ []
def dkwX0_over_3 : List UInt8 := [182, 1, 124, 104, 167, 0, 23, 21, 5, 28, 154, 0, 7, 3, 167, 0, 5, 16, 11, 164, 0, 7, 4]
abbrev dktX0_over_3 : List UInt8 := dkwX0_over_3 ++ dktX0_over_4
def dkwX0_over_2 : List UInt8 := [46, 167, 0, 4, 3, 54, 5, 29, 28, 4, 160, 0, 21, 21, 5, 42, 180, 0, 32, 21, 4, 182, 0, 116]
abbrev dktX0_over_2 : List UInt8 := dkwX0_over_2 ++ dktX0_over_3
def dkwX0_over_1 : List UInt8 := [21, 4, 182, 0, 116, 182, 1, 59, 153, 0, 20, 42, 180, 0, 32, 21, 4, 182, 0, 238, 180, 0, 242, 27]
abbrev dktX0_over_1 : List UInt8 := dkwX0_over_1 ++ dktX0_over_2
def dkwX0_over_0 : List UInt8 := [3, 62, 3, 54, 4, 21, 4, 42, 180, 0, 32, 180, 0, 89, 182, 0, 92, 162, 0, 90, 42, 180, 0, 32]
abbrev dktX0_over_0 : List UInt8 := dkwX0_over_0 ++ dktX0_over_1
theorem dksX0_over_0 : cX0_over.data.toList.drop 0 = dktX0_over_0 := by decide +kernel
theorem dksX0_over_1 : cX0_over.data.toList.drop 24 = dktX0_over_1 := dk_seg dksX0_over_0 24 rfl rfl
theorem dksX0_over_2 : cX0_over.data.toList.drop 48 = dktX0_over_2 := dk_seg dksX0_over_1 24 rfl rfl
theorem dksX0_over_3 : cX0_over.data.toList.drop 72 = dktX0_over_3 := dk_seg dksX0_over_2 24 rfl rfl
theorem dksX0_over_4 : cX0_over.data.toList.drop 95 = dktX0_over_4 := dk_seg dksX0_over_3 23 rfl rfl
theorem dX0_over_0 : decode cX0_over 0 = .ok (.iconst 0, 1) := dk_3 (dk_at dksX0_over_0 0 rfl rfl)
theorem dX0_over_1 : decode cX0_over 1 = .ok (.istore_n 3, 1) := dk_62 (dk_at dksX0_over_0 1 rfl rfl)
theorem dX0_over_2 : decode cX0_over 2 = .ok (.iconst 0, 1) := dk_3 (dk_at dksX0_over_0 2 rfl rfl)
theorem dX0_over_3 : decode cX0_over 3 = .ok (.istore 4, 2) := dk_54 4 (dk_at dksX0_over_0 3 rfl rfl)
theorem dX0_over_5 : decode cX0_over 5 = .ok (.iload 4, 2) := dk_21 4 (dk_at dksX0_over_0 5 rfl rfl)
theorem dX0_over_7 : decode cX0_over 7 = .ok (.aload_n 0, 1) := dk_42 (dk_at dksX0_over_0 7 rfl rfl)
theorem dX0_over_8 : decode cX0_over 8 = .ok (.getfield 32, 3) := dk_180 0 32 (dk_at dksX0_over_0 8 rfl rfl)
theorem dX0_over_11 : decode cX0_over 11 = .ok (.getfield 89, 3) := dk_180 0 89 (dk_at dksX0_over_0 11 rfl rfl)
theorem dX0_over_14 : decode cX0_over 14 = .ok (.invokevirtual 92, 3) := dk_182 0 92 (dk_at dksX0_over_0 14 rfl rfl)
theorem dX0_over_17 : decode cX0_over 17 = .ok (.if_icmp .ge 90, 3) := dk_162 0 90 (dk_at dksX0_over_0 17 rfl rfl)
theorem dX0_over_20 : decode cX0_over 20 = .ok (.aload_n 0, 1) := dk_42 (dk_at dksX0_over_0 20 rfl rfl)
theorem dX0_over_21 : decode cX0_over 21 = .ok (.getfield 32, 3) := dk_180 0 32 (dk_at dksX0_over_0 21 rfl rfl)
theorem dX0_over_24 : decode cX0_over 24 = .ok (.iload 4, 2) := dk_21 4 (dk_at dksX0_over_1 0 rfl rfl)
theorem dX0_over_26 : decode cX0_over 26 = .ok (.invokevirtual 116, 3) := dk_182 0 116 (dk_at dksX0_over_1 2 rfl rfl)
theorem dX0_over_29 : decode cX0_over 29 = .ok (.invokevirtual 315, 3) := dk_182 1 59 (dk_at dksX0_over_1 5 rfl rfl)
theorem dX0_over_32 : decode cX0_over 32 = .ok (.ifCond .eq 20, 3) := dk_153 0 20 (dk_at dksX0_over_1 8 rfl rfl)
theorem dX0_over_35 : decode cX0_over 35 = .ok (.aload_n 0, 1) := dk_42 (dk_at dksX0_over_1 11 rfl rfl)
theorem dX0_over_36 : decode cX0_over 36 = .ok (.getfield 32, 3) := dk_180 0 32 (dk_at dksX0_over_1 12 rfl rfl)
theorem dX0_over_39 : decode cX0_over 39 = .ok (.iload 4, 2) := dk_21 4 (dk_at dksX0_over_1 15 rfl rfl)
theorem dX0_over_41 : decode cX0_over 41 = .ok (.invokevirtual 238, 3) := dk_182 0 238 (dk_at dksX0_over_1 17 rfl rfl)
theorem dX0_over_44 : decode cX0_over 44 = .ok (.getfield 242, 3) := dk_180 0 242 (dk_at dksX0_over_1 20 rfl rfl)
theorem dX0_over_47 : decode cX0_over 47 = .ok (.iload_n 1, 1) := dk_27 (dk_at dksX0_over_1 23 rfl rfl)
theorem dX0_over_48 : decode cX0_over 48 = .ok (.iaload, 1) := dk_46 (dk_at dksX0_over_2 0 rfl rfl)
theorem dX0_over_49 : decode cX0_over 49 = .ok (.goto 4, 3) := dk_167 0 4 (dk_at dksX0_over_2 1 rfl rfl)
theorem dX0_over_52 : decode cX0_over 52 = .ok (.iconst 0, 1) := dk_3 (dk_at dksX0_over_2 4 rfl rfl)
theorem dX0_over_53 : decode cX0_over 53 = .ok (.istore 5, 2) := dk_54 5 (dk_at dksX0_over_2 5 rfl rfl)
theorem dX0_over_55 : decode cX0_over 55 = .ok (.iload_n 3, 1) := dk_29 (dk_at dksX0_over_2 7 rfl rfl)
theorem dX0_over_56 : decode cX0_over 56 = .ok (.iload_n 2, 1) := dk_28 (dk_at dksX0_over_2 8 rfl rfl)
theorem dX0_over_57 : decode cX0_over 57 = .ok (.iconst 1, 1) := dk_4 (dk_at dksX0_over_2 9 rfl rfl)
theorem dX0_over_58 : decode cX0_over 58 = .ok (.if_icmp .ne 21, 3) := dk_160 0 21 (dk_at dksX0_over_2 10 rfl rfl)
theorem dX0_over_61 : decode cX0_over 61 = .ok (.iload 5, 2) := dk_21 5 (dk_at dksX0_over_2 13 rfl rfl)
theorem dX0_over_63 : decode cX0_over 63 = .ok (.aload_n 0, 1) := dk_42 (dk_at dksX0_over_2 15 rfl rfl)
theorem dX0_over_64 : decode cX0_over 64 = .ok (.getfield 32, 3) := dk_180 0 32 (dk_at dksX0_over_2 16 rfl rfl)
theorem dX0_over_67 : decode cX0_over 67 = .ok (.iload 4, 2) := dk_21 4 (dk_at dksX0_over_2 19 rfl rfl)
theorem dX0_over_69 : decode cX0_over 69 = .ok (.invokevirtual 116, 3) := dk_182 0 116 (dk_at dksX0_over_2 21 rfl rfl)
theorem dX0_over_72 : decode cX0_over 72 = .ok (.invokevirtual 380, 3) := dk_182 1 124 (dk_at dksX0_over_3 0 rfl rfl)
theorem dX0_over_75 : decode cX0_over 75 = .ok (.imul, 1) := dk_104 (dk_at dksX0_over_3 3 rfl rfl)
theorem dX0_over_76 : decode cX0_over 76 = .ok (.goto 23, 3) := dk_167 0 23 (dk_at dksX0_over_3 4 rfl rfl)
theorem dX0_over_79 : decode cX0_over 79 = .ok (.iload 5, 2) := dk_21 5 (dk_at dksX0_over_3 7 rfl rfl)
theorem dX0_over_81 : decode cX0_over 81 = .ok (.iload_n 2, 1) := dk_28 (dk_at dksX0_over_3 9 rfl rfl)
theorem dX0_over_82 : decode cX0_over 82 = .ok (.ifCond .ne 7, 3) := dk_154 0 7 (dk_at dksX0_over_3 10 rfl rfl)
theorem dX0_over_85 : decode cX0_over 85 = .ok (.iconst 0, 1) := dk_3 (dk_at dksX0_over_3 13 rfl rfl)
theorem dX0_over_86 : decode cX0_over 86 = .ok (.goto 5, 3) := dk_167 0 5 (dk_at dksX0_over_3 14 rfl rfl)
theorem dX0_over_89 : decode cX0_over 89 = .ok (.bipush 11, 2) := dk_16 11 (dk_at dksX0_over_3 17 rfl rfl)
theorem dX0_over_91 : decode cX0_over 91 = .ok (.if_icmp .le 7, 3) := dk_164 0 7 (dk_at dksX0_over_3 19 rfl rfl)
theorem dX0_over_94 : decode cX0_over 94 = .ok (.iconst 1, 1) := dk_4 (dk_at dksX0_over_3 22 rfl rfl)
theorem dX0_over_95 : decode cX0_over 95 = .ok (.goto 4, 3) := dk_167 0 4 (dk_at dksX0_over_4 0 rfl rfl)
theorem dX0_over_98 : decode cX0_over 98 = .ok (.iconst 0, 1) := dk_3 (dk_at dksX0_over_4 3 rfl rfl)
theorem dX0_over_99 : decode cX0_over 99 = .ok (.iadd, 1) := dk_96 (dk_at dksX0_over_4 4 rfl rfl)
theorem dX0_over_100 : decode cX0_over 100 = .ok (.istore_n 3, 1) := dk_62 (dk_at dksX0_over_4 5 rfl rfl)
theorem dX0_over_101 : decode cX0_over 101 = .ok (.iinc 4 1, 3) := dk_132 4 1 (dk_at dksX0_over_4 6 rfl rfl)
theorem dX0_over_104 : decode cX0_over 104 = .ok (.goto (-99), 3) := dk_167 255 157 (dk_at dksX0_over_4 9 rfl rfl)
theorem dX0_over_107 : decode cX0_over 107 = .ok (.iload_n 3, 1) := dk_29 (dk_at dksX0_over_4 12 rfl rfl)
theorem dX0_over_108 : decode cX0_over 108 = .ok (.ireturn, 1) := dk_172 (dk_at dksX0_over_4 13 rfl rfl)
abbrev cX0_richest : ByteArray := prog_1_method_61_code
def yX0_richest : MethodName := ⟨RX0, "richest", "()I"⟩
def dkwX0_richest_1 : List UInt8 := [42, 27, 4, 182, 1, 178, 164, 0, 7, 28, 167, 0, 4, 27, 60, 132, 2, 1, 167, 255, 218, 27, 172]
abbrev dktX0_richest_1 : List UInt8 := dkwX0_richest_1 ++ []
def dkwX0_richest_0 : List UInt8 := [3, 60, 4, 61, 28, 42, 180, 0, 32, 180, 0, 7, 182, 0, 92, 162, 0, 30, 42, 28, 4, 182, 1, 178]
abbrev dktX0_richest_0 : List UInt8 := dkwX0_richest_0 ++ dktX0_richest_1
theorem dksX0_richest_0 : cX0_richest.data.toList.drop 0 = dktX0_richest_0 := by decide +kernel
theorem dksX0_richest_1 : cX0_richest.data.toList.drop 24 = dktX0_richest_1 := dk_seg dksX0_richest_0 24 rfl rfl
theorem dX0_richest_0 : decode cX0_richest 0 = .ok (.iconst 0, 1) := dk_3 (dk_at dksX0_richest_0 0 rfl rfl)
theorem dX0_richest_1 : decode cX0_richest 1 = .ok (.istore_n 1, 1) := dk_60 (dk_at dksX0_richest_0 1 rfl rfl)
theorem dX0_richest_2 : decode cX0_richest 2 = .ok (.iconst 1, 1) := dk_4 (dk_at dksX0_richest_0 2 rfl rfl)
theorem dX0_richest_3 : decode cX0_richest 3 = .ok (.istore_n 2, 1) := dk_61 (dk_at dksX0_richest_0 3 rfl rfl)
theorem dX0_richest_4 : decode cX0_richest 4 = .ok (.iload_n 2, 1) := dk_28 (dk_at dksX0_richest_0 4 rfl rfl)
theorem dX0_richest_5 : decode cX0_richest 5 = .ok (.aload_n 0, 1) := dk_42 (dk_at dksX0_richest_0 5 rfl rfl)
theorem dX0_richest_6 : decode cX0_richest 6 = .ok (.getfield 32, 3) := dk_180 0 32 (dk_at dksX0_richest_0 6 rfl rfl)
theorem dX0_richest_9 : decode cX0_richest 9 = .ok (.getfield 7, 3) := dk_180 0 7 (dk_at dksX0_richest_0 9 rfl rfl)
theorem dX0_richest_12 : decode cX0_richest 12 = .ok (.invokevirtual 92, 3) := dk_182 0 92 (dk_at dksX0_richest_0 12 rfl rfl)
theorem dX0_richest_15 : decode cX0_richest 15 = .ok (.if_icmp .ge 30, 3) := dk_162 0 30 (dk_at dksX0_richest_0 15 rfl rfl)
theorem dX0_richest_18 : decode cX0_richest 18 = .ok (.aload_n 0, 1) := dk_42 (dk_at dksX0_richest_0 18 rfl rfl)
theorem dX0_richest_19 : decode cX0_richest 19 = .ok (.iload_n 2, 1) := dk_28 (dk_at dksX0_richest_0 19 rfl rfl)
theorem dX0_richest_20 : decode cX0_richest 20 = .ok (.iconst 1, 1) := dk_4 (dk_at dksX0_richest_0 20 rfl rfl)
theorem dX0_richest_21 : decode cX0_richest 21 = .ok (.invokevirtual 434, 3) := dk_182 1 178 (dk_at dksX0_richest_0 21 rfl rfl)
theorem dX0_richest_24 : decode cX0_richest 24 = .ok (.aload_n 0, 1) := dk_42 (dk_at dksX0_richest_1 0 rfl rfl)
theorem dX0_richest_25 : decode cX0_richest 25 = .ok (.iload_n 1, 1) := dk_27 (dk_at dksX0_richest_1 1 rfl rfl)
theorem dX0_richest_26 : decode cX0_richest 26 = .ok (.iconst 1, 1) := dk_4 (dk_at dksX0_richest_1 2 rfl rfl)
theorem dX0_richest_27 : decode cX0_richest 27 = .ok (.invokevirtual 434, 3) := dk_182 1 178 (dk_at dksX0_richest_1 3 rfl rfl)
theorem dX0_richest_30 : decode cX0_richest 30 = .ok (.if_icmp .le 7, 3) := dk_164 0 7 (dk_at dksX0_richest_1 6 rfl rfl)
theorem dX0_richest_33 : decode cX0_richest 33 = .ok (.iload_n 2, 1) := dk_28 (dk_at dksX0_richest_1 9 rfl rfl)
theorem dX0_richest_34 : decode cX0_richest 34 = .ok (.goto 4, 3) := dk_167 0 4 (dk_at dksX0_richest_1 10 rfl rfl)
theorem dX0_richest_37 : decode cX0_richest 37 = .ok (.iload_n 1, 1) := dk_27 (dk_at dksX0_richest_1 13 rfl rfl)
theorem dX0_richest_38 : decode cX0_richest 38 = .ok (.istore_n 1, 1) := dk_60 (dk_at dksX0_richest_1 14 rfl rfl)
theorem dX0_richest_39 : decode cX0_richest 39 = .ok (.iinc 2 1, 3) := dk_132 2 1 (dk_at dksX0_richest_1 15 rfl rfl)
theorem dX0_richest_42 : decode cX0_richest 42 = .ok (.goto (-38), 3) := dk_167 255 218 (dk_at dksX0_richest_1 18 rfl rfl)
theorem dX0_richest_45 : decode cX0_richest 45 = .ok (.iload_n 1, 1) := dk_27 (dk_at dksX0_richest_1 21 rfl rfl)
theorem dX0_richest_46 : decode cX0_richest 46 = .ok (.ireturn, 1) := dk_172 (dk_at dksX0_richest_1 22 rfl rfl)
abbrev cX0_burden : ByteArray := prog_1_method_63_code
def yX0_burden : MethodName := ⟨RX0, "burden", "(II)I"⟩
def dkwX0_burden_4 : List UInt8 := [2, 172]
abbrev dktX0_burden_4 : List UInt8 := dkwX0_burden_4 ++ []
def dkwX0_burden_3 : List UInt8 := [167, 0, 25, 3, 167, 0, 21, 45, 180, 1, 34, 182, 1, 45, 167, 0, 11, 45, 182, 1, 186, 167, 0, 4]
abbrev dktX0_burden_3 : List UInt8 := dkwX0_burden_3 ++ dktX0_burden_4
def dkwX0_burden_2 : List UInt8 := [42, 45, 28, 182, 1, 183, 167, 0, 43, 45, 180, 1, 58, 167, 0, 36, 45, 182, 1, 71, 153, 0, 7, 4]
abbrev dktX0_burden_2 : List UInt8 := dkwX0_burden_2 ++ dktX0_burden_3
def dkwX0_burden_1 : List UInt8 := [170, 0, 0, 0, 0, 0, 0, 96, 0, 0, 0, 0, 0, 0, 0, 7, 0, 0, 0, 48, 0, 0, 0, 48, 0, 0, 0, 48, 0, 0, 0, 57, 0, 0, 0, 64, 0, 0, 0, 79, 0, 0, 0, 48, 0, 0, 0, 89]
abbrev dktX0_burden_1 : List UInt8 := dkwX0_burden_1 ++ dktX0_burden_2
def dkwX0_burden_0 : List UInt8 := [42, 27, 182, 1, 21, 154, 0, 5, 2, 172, 42, 180, 0, 32, 27, 182, 1, 24, 78, 28]
abbrev dktX0_burden_0 : List UInt8 := dkwX0_burden_0 ++ dktX0_burden_1
theorem dksX0_burden_0 : cX0_burden.data.toList.drop 0 = dktX0_burden_0 := by decide +kernel
theorem dksX0_burden_1 : cX0_burden.data.toList.drop 20 = dktX0_burden_1 := dk_seg dksX0_burden_0 20 rfl rfl
theorem dksX0_burden_2 : cX0_burden.data.toList.drop 68 = dktX0_burden_2 := dk_seg dksX0_burden_1 48 rfl rfl
theorem dksX0_burden_3 : cX0_burden.data.toList.drop 92 = dktX0_burden_3 := dk_seg dksX0_burden_2 24 rfl rfl
theorem dksX0_burden_4 : cX0_burden.data.toList.drop 116 = dktX0_burden_4 := dk_seg dksX0_burden_3 24 rfl rfl
theorem dX0_burden_0 : decode cX0_burden 0 = .ok (.aload_n 0, 1) := dk_42 (dk_at dksX0_burden_0 0 rfl rfl)
theorem dX0_burden_1 : decode cX0_burden 1 = .ok (.iload_n 1, 1) := dk_27 (dk_at dksX0_burden_0 1 rfl rfl)
theorem dX0_burden_2 : decode cX0_burden 2 = .ok (.invokevirtual 277, 3) := dk_182 1 21 (dk_at dksX0_burden_0 2 rfl rfl)
theorem dX0_burden_5 : decode cX0_burden 5 = .ok (.ifCond .ne 5, 3) := dk_154 0 5 (dk_at dksX0_burden_0 5 rfl rfl)
theorem dX0_burden_8 : decode cX0_burden 8 = .ok (.iconst (-1), 1) := dk_2 (dk_at dksX0_burden_0 8 rfl rfl)
theorem dX0_burden_9 : decode cX0_burden 9 = .ok (.ireturn, 1) := dk_172 (dk_at dksX0_burden_0 9 rfl rfl)
theorem dX0_burden_10 : decode cX0_burden 10 = .ok (.aload_n 0, 1) := dk_42 (dk_at dksX0_burden_0 10 rfl rfl)
theorem dX0_burden_11 : decode cX0_burden 11 = .ok (.getfield 32, 3) := dk_180 0 32 (dk_at dksX0_burden_0 11 rfl rfl)
theorem dX0_burden_14 : decode cX0_burden 14 = .ok (.iload_n 1, 1) := dk_27 (dk_at dksX0_burden_0 14 rfl rfl)
theorem dX0_burden_15 : decode cX0_burden 15 = .ok (.invokevirtual 280, 3) := dk_182 1 24 (dk_at dksX0_burden_0 15 rfl rfl)
theorem dX0_burden_18 : decode cX0_burden 18 = .ok (.astore_n 3, 1) := dk_78 (dk_at dksX0_burden_0 18 rfl rfl)
theorem dX0_burden_19 : decode cX0_burden 19 = .ok (.iload_n 2, 1) := dk_28 (dk_at dksX0_burden_0 19 rfl rfl)
theorem dX0_burden_20 : decode cX0_burden 20 = .ok (.tableswitch 96 0 7 #[48, 48, 48, 57, 64, 79, 48, 89], 48) := by decide +kernel
theorem dX0_burden_68 : decode cX0_burden 68 = .ok (.aload_n 0, 1) := dk_42 (dk_at dksX0_burden_2 0 rfl rfl)
theorem dX0_burden_69 : decode cX0_burden 69 = .ok (.aload_n 3, 1) := dk_45 (dk_at dksX0_burden_2 1 rfl rfl)
theorem dX0_burden_70 : decode cX0_burden 70 = .ok (.iload_n 2, 1) := dk_28 (dk_at dksX0_burden_2 2 rfl rfl)
theorem dX0_burden_71 : decode cX0_burden 71 = .ok (.invokevirtual 439, 3) := dk_182 1 183 (dk_at dksX0_burden_2 3 rfl rfl)
theorem dX0_burden_74 : decode cX0_burden 74 = .ok (.goto 43, 3) := dk_167 0 43 (dk_at dksX0_burden_2 6 rfl rfl)
theorem dX0_burden_77 : decode cX0_burden 77 = .ok (.aload_n 3, 1) := dk_45 (dk_at dksX0_burden_2 9 rfl rfl)
theorem dX0_burden_78 : decode cX0_burden 78 = .ok (.getfield 314, 3) := dk_180 1 58 (dk_at dksX0_burden_2 10 rfl rfl)
theorem dX0_burden_81 : decode cX0_burden 81 = .ok (.goto 36, 3) := dk_167 0 36 (dk_at dksX0_burden_2 13 rfl rfl)
theorem dX0_burden_84 : decode cX0_burden 84 = .ok (.aload_n 3, 1) := dk_45 (dk_at dksX0_burden_2 16 rfl rfl)
theorem dX0_burden_85 : decode cX0_burden 85 = .ok (.invokevirtual 327, 3) := dk_182 1 71 (dk_at dksX0_burden_2 17 rfl rfl)
theorem dX0_burden_88 : decode cX0_burden 88 = .ok (.ifCond .eq 7, 3) := dk_153 0 7 (dk_at dksX0_burden_2 20 rfl rfl)
theorem dX0_burden_91 : decode cX0_burden 91 = .ok (.iconst 1, 1) := dk_4 (dk_at dksX0_burden_2 23 rfl rfl)
theorem dX0_burden_92 : decode cX0_burden 92 = .ok (.goto 25, 3) := dk_167 0 25 (dk_at dksX0_burden_3 0 rfl rfl)
theorem dX0_burden_95 : decode cX0_burden 95 = .ok (.iconst 0, 1) := dk_3 (dk_at dksX0_burden_3 3 rfl rfl)
theorem dX0_burden_96 : decode cX0_burden 96 = .ok (.goto 21, 3) := dk_167 0 21 (dk_at dksX0_burden_3 4 rfl rfl)
theorem dX0_burden_99 : decode cX0_burden 99 = .ok (.aload_n 3, 1) := dk_45 (dk_at dksX0_burden_3 7 rfl rfl)
theorem dX0_burden_100 : decode cX0_burden 100 = .ok (.getfield 290, 3) := dk_180 1 34 (dk_at dksX0_burden_3 8 rfl rfl)
theorem dX0_burden_103 : decode cX0_burden 103 = .ok (.invokevirtual 301, 3) := dk_182 1 45 (dk_at dksX0_burden_3 11 rfl rfl)
theorem dX0_burden_106 : decode cX0_burden 106 = .ok (.goto 11, 3) := dk_167 0 11 (dk_at dksX0_burden_3 14 rfl rfl)
theorem dX0_burden_109 : decode cX0_burden 109 = .ok (.aload_n 3, 1) := dk_45 (dk_at dksX0_burden_3 17 rfl rfl)
theorem dX0_burden_110 : decode cX0_burden 110 = .ok (.invokevirtual 442, 3) := dk_182 1 186 (dk_at dksX0_burden_3 18 rfl rfl)
theorem dX0_burden_113 : decode cX0_burden 113 = .ok (.goto 4, 3) := dk_167 0 4 (dk_at dksX0_burden_3 21 rfl rfl)
theorem dX0_burden_116 : decode cX0_burden 116 = .ok (.iconst (-1), 1) := dk_2 (dk_at dksX0_burden_4 0 rfl rfl)
theorem dX0_burden_117 : decode cX0_burden 117 = .ok (.ireturn, 1) := dk_172 (dk_at dksX0_burden_4 1 rfl rfl)
abbrev cX0_special : ByteArray := prog_1_method_62_code
def yX0_special : MethodName := ⟨RX0, "special", "(LLandFolio$Burden;I)I"⟩
def dkwX0_special_4 : List UInt8 := [16, 254, 172]
abbrev dktX0_special_4 : List UInt8 := dkwX0_special_4 ++ []
def dkwX0_special_3 : List UInt8 := [4, 160, 0, 10, 45, 180, 1, 181, 167, 0, 17, 28, 5, 160, 0, 10, 45, 180, 1, 182, 167, 0, 5]
abbrev dktX0_special_3 : List UInt8 := dkwX0_special_3 ++ dktX0_special_4
def dkwX0_special_2 : List UInt8 := [180, 0, 32, 45, 16, 254, 182, 1, 48, 172, 43, 192, 1, 18, 78, 28, 154, 0, 7, 4, 167, 0, 29, 28]
abbrev dktX0_special_2 : List UInt8 := dkwX0_special_2 ++ dktX0_special_3
def dkwX0_special_1 : List UInt8 := [160, 0, 10, 45, 180, 1, 172, 167, 0, 25, 28, 5, 160, 0, 10, 45, 180, 1, 31, 167, 0, 13, 42]
abbrev dktX0_special_1 : List UInt8 := dkwX0_special_1 ++ dktX0_special_2
def dkwX0_special_0 : List UInt8 := [43, 193, 0, 254, 153, 0, 51, 43, 192, 0, 254, 78, 28, 154, 0, 7, 3, 167, 0, 37, 28, 4]
abbrev dktX0_special_0 : List UInt8 := dkwX0_special_0 ++ dktX0_special_1
theorem dksX0_special_0 : cX0_special.data.toList.drop 0 = dktX0_special_0 := by decide +kernel
theorem dksX0_special_1 : cX0_special.data.toList.drop 22 = dktX0_special_1 := dk_seg dksX0_special_0 22 rfl rfl
theorem dksX0_special_2 : cX0_special.data.toList.drop 45 = dktX0_special_2 := dk_seg dksX0_special_1 23 rfl rfl
theorem dksX0_special_3 : cX0_special.data.toList.drop 69 = dktX0_special_3 := dk_seg dksX0_special_2 24 rfl rfl
theorem dksX0_special_4 : cX0_special.data.toList.drop 92 = dktX0_special_4 := dk_seg dksX0_special_3 23 rfl rfl
theorem dX0_special_0 : decode cX0_special 0 = .ok (.aload_n 1, 1) := dk_43 (dk_at dksX0_special_0 0 rfl rfl)
theorem dX0_special_1 : decode cX0_special 1 = .ok (.instanceof 254, 3) := dk_193 0 254 (dk_at dksX0_special_0 1 rfl rfl)
theorem dX0_special_4 : decode cX0_special 4 = .ok (.ifCond .eq 51, 3) := dk_153 0 51 (dk_at dksX0_special_0 4 rfl rfl)
theorem dX0_special_7 : decode cX0_special 7 = .ok (.aload_n 1, 1) := dk_43 (dk_at dksX0_special_0 7 rfl rfl)
theorem dX0_special_8 : decode cX0_special 8 = .ok (.checkcast 254, 3) := dk_192 0 254 (dk_at dksX0_special_0 8 rfl rfl)
theorem dX0_special_11 : decode cX0_special 11 = .ok (.astore_n 3, 1) := dk_78 (dk_at dksX0_special_0 11 rfl rfl)
theorem dX0_special_12 : decode cX0_special 12 = .ok (.iload_n 2, 1) := dk_28 (dk_at dksX0_special_0 12 rfl rfl)
theorem dX0_special_13 : decode cX0_special 13 = .ok (.ifCond .ne 7, 3) := dk_154 0 7 (dk_at dksX0_special_0 13 rfl rfl)
theorem dX0_special_16 : decode cX0_special 16 = .ok (.iconst 0, 1) := dk_3 (dk_at dksX0_special_0 16 rfl rfl)
theorem dX0_special_17 : decode cX0_special 17 = .ok (.goto 37, 3) := dk_167 0 37 (dk_at dksX0_special_0 17 rfl rfl)
theorem dX0_special_20 : decode cX0_special 20 = .ok (.iload_n 2, 1) := dk_28 (dk_at dksX0_special_0 20 rfl rfl)
theorem dX0_special_21 : decode cX0_special 21 = .ok (.iconst 1, 1) := dk_4 (dk_at dksX0_special_0 21 rfl rfl)
theorem dX0_special_22 : decode cX0_special 22 = .ok (.if_icmp .ne 10, 3) := dk_160 0 10 (dk_at dksX0_special_1 0 rfl rfl)
theorem dX0_special_25 : decode cX0_special 25 = .ok (.aload_n 3, 1) := dk_45 (dk_at dksX0_special_1 3 rfl rfl)
theorem dX0_special_26 : decode cX0_special 26 = .ok (.getfield 428, 3) := dk_180 1 172 (dk_at dksX0_special_1 4 rfl rfl)
theorem dX0_special_29 : decode cX0_special 29 = .ok (.goto 25, 3) := dk_167 0 25 (dk_at dksX0_special_1 7 rfl rfl)
theorem dX0_special_32 : decode cX0_special 32 = .ok (.iload_n 2, 1) := dk_28 (dk_at dksX0_special_1 10 rfl rfl)
theorem dX0_special_33 : decode cX0_special 33 = .ok (.iconst 2, 1) := dk_5 (dk_at dksX0_special_1 11 rfl rfl)
theorem dX0_special_34 : decode cX0_special 34 = .ok (.if_icmp .ne 10, 3) := dk_160 0 10 (dk_at dksX0_special_1 12 rfl rfl)
theorem dX0_special_37 : decode cX0_special 37 = .ok (.aload_n 3, 1) := dk_45 (dk_at dksX0_special_1 15 rfl rfl)
theorem dX0_special_38 : decode cX0_special 38 = .ok (.getfield 287, 3) := dk_180 1 31 (dk_at dksX0_special_1 16 rfl rfl)
theorem dX0_special_41 : decode cX0_special 41 = .ok (.goto 13, 3) := dk_167 0 13 (dk_at dksX0_special_1 19 rfl rfl)
theorem dX0_special_44 : decode cX0_special 44 = .ok (.aload_n 0, 1) := dk_42 (dk_at dksX0_special_1 22 rfl rfl)
theorem dX0_special_45 : decode cX0_special 45 = .ok (.getfield 32, 3) := dk_180 0 32 (dk_at dksX0_special_2 0 rfl rfl)
theorem dX0_special_48 : decode cX0_special 48 = .ok (.aload_n 3, 1) := dk_45 (dk_at dksX0_special_2 3 rfl rfl)
theorem dX0_special_49 : decode cX0_special 49 = .ok (.bipush (-2), 2) := dk_16 254 (dk_at dksX0_special_2 4 rfl rfl)
theorem dX0_special_51 : decode cX0_special 51 = .ok (.invokevirtual 304, 3) := dk_182 1 48 (dk_at dksX0_special_2 6 rfl rfl)
theorem dX0_special_54 : decode cX0_special 54 = .ok (.ireturn, 1) := dk_172 (dk_at dksX0_special_2 9 rfl rfl)
theorem dX0_special_55 : decode cX0_special 55 = .ok (.aload_n 1, 1) := dk_43 (dk_at dksX0_special_2 10 rfl rfl)
theorem dX0_special_56 : decode cX0_special 56 = .ok (.checkcast 274, 3) := dk_192 1 18 (dk_at dksX0_special_2 11 rfl rfl)
theorem dX0_special_59 : decode cX0_special 59 = .ok (.astore_n 3, 1) := dk_78 (dk_at dksX0_special_2 14 rfl rfl)
theorem dX0_special_60 : decode cX0_special 60 = .ok (.iload_n 2, 1) := dk_28 (dk_at dksX0_special_2 15 rfl rfl)
theorem dX0_special_61 : decode cX0_special 61 = .ok (.ifCond .ne 7, 3) := dk_154 0 7 (dk_at dksX0_special_2 16 rfl rfl)
theorem dX0_special_64 : decode cX0_special 64 = .ok (.iconst 1, 1) := dk_4 (dk_at dksX0_special_2 19 rfl rfl)
theorem dX0_special_65 : decode cX0_special 65 = .ok (.goto 29, 3) := dk_167 0 29 (dk_at dksX0_special_2 20 rfl rfl)
theorem dX0_special_68 : decode cX0_special 68 = .ok (.iload_n 2, 1) := dk_28 (dk_at dksX0_special_2 23 rfl rfl)
theorem dX0_special_69 : decode cX0_special 69 = .ok (.iconst 1, 1) := dk_4 (dk_at dksX0_special_3 0 rfl rfl)
theorem dX0_special_70 : decode cX0_special 70 = .ok (.if_icmp .ne 10, 3) := dk_160 0 10 (dk_at dksX0_special_3 1 rfl rfl)
theorem dX0_special_73 : decode cX0_special 73 = .ok (.aload_n 3, 1) := dk_45 (dk_at dksX0_special_3 4 rfl rfl)
theorem dX0_special_74 : decode cX0_special 74 = .ok (.getfield 437, 3) := dk_180 1 181 (dk_at dksX0_special_3 5 rfl rfl)
theorem dX0_special_77 : decode cX0_special 77 = .ok (.goto 17, 3) := dk_167 0 17 (dk_at dksX0_special_3 8 rfl rfl)
theorem dX0_special_80 : decode cX0_special 80 = .ok (.iload_n 2, 1) := dk_28 (dk_at dksX0_special_3 11 rfl rfl)
theorem dX0_special_81 : decode cX0_special 81 = .ok (.iconst 2, 1) := dk_5 (dk_at dksX0_special_3 12 rfl rfl)
theorem dX0_special_82 : decode cX0_special 82 = .ok (.if_icmp .ne 10, 3) := dk_160 0 10 (dk_at dksX0_special_3 13 rfl rfl)
theorem dX0_special_85 : decode cX0_special 85 = .ok (.aload_n 3, 1) := dk_45 (dk_at dksX0_special_3 16 rfl rfl)
theorem dX0_special_86 : decode cX0_special 86 = .ok (.getfield 438, 3) := dk_180 1 182 (dk_at dksX0_special_3 17 rfl rfl)
theorem dX0_special_89 : decode cX0_special 89 = .ok (.goto 5, 3) := dk_167 0 5 (dk_at dksX0_special_3 20 rfl rfl)
theorem dX0_special_92 : decode cX0_special 92 = .ok (.bipush (-2), 2) := dk_16 254 (dk_at dksX0_special_4 0 rfl rfl)
theorem dX0_special_94 : decode cX0_special 94 = .ok (.ireturn, 1) := dk_172 (dk_at dksX0_special_4 2 rfl rfl)
abbrev cX0_burdenOf : ByteArray := prog_1_method_64_code
def yX0_burdenOf : MethodName := ⟨RX0, "burdenOf", "(II)I"⟩
def dkwX0_burdenOf_3 : List UInt8 := [167, 255, 221, 16, 254, 172]
abbrev dktX0_burdenOf_3 : List UInt8 := dkwX0_burdenOf_3 ++ []
def dkwX0_burdenOf_2 : List UInt8 := [185, 1, 115, 1, 0, 192, 1, 35, 58, 5, 29, 154, 0, 9, 25, 5, 182, 1, 188, 172, 132, 3, 255]
abbrev dktX0_burdenOf_2 : List UInt8 := dkwX0_burdenOf_2 ++ dktX0_burdenOf_3
def dkwX0_burdenOf_1 : List UInt8 := [27, 183, 1, 103, 182, 1, 106, 58, 4, 25, 4, 185, 1, 110, 1, 0, 153, 0, 31, 25, 4]
abbrev dktX0_burdenOf_1 : List UInt8 := dkwX0_burdenOf_1 ++ dktX0_burdenOf_2
def dkwX0_burdenOf_0 : List UInt8 := [42, 27, 182, 0, 110, 153, 0, 7, 28, 156, 0, 5, 2, 172, 28, 62, 187, 1, 101, 89, 42, 180, 0, 32]
abbrev dktX0_burdenOf_0 : List UInt8 := dkwX0_burdenOf_0 ++ dktX0_burdenOf_1
theorem dksX0_burdenOf_0 : cX0_burdenOf.data.toList.drop 0 = dktX0_burdenOf_0 := by decide +kernel
theorem dksX0_burdenOf_1 : cX0_burdenOf.data.toList.drop 24 = dktX0_burdenOf_1 := dk_seg dksX0_burdenOf_0 24 rfl rfl
theorem dksX0_burdenOf_2 : cX0_burdenOf.data.toList.drop 45 = dktX0_burdenOf_2 := dk_seg dksX0_burdenOf_1 21 rfl rfl
theorem dksX0_burdenOf_3 : cX0_burdenOf.data.toList.drop 68 = dktX0_burdenOf_3 := dk_seg dksX0_burdenOf_2 23 rfl rfl
theorem dX0_burdenOf_0 : decode cX0_burdenOf 0 = .ok (.aload_n 0, 1) := dk_42 (dk_at dksX0_burdenOf_0 0 rfl rfl)
theorem dX0_burdenOf_1 : decode cX0_burdenOf 1 = .ok (.iload_n 1, 1) := dk_27 (dk_at dksX0_burdenOf_0 1 rfl rfl)
theorem dX0_burdenOf_2 : decode cX0_burdenOf 2 = .ok (.invokevirtual 110, 3) := dk_182 0 110 (dk_at dksX0_burdenOf_0 2 rfl rfl)
theorem dX0_burdenOf_5 : decode cX0_burdenOf 5 = .ok (.ifCond .eq 7, 3) := dk_153 0 7 (dk_at dksX0_burdenOf_0 5 rfl rfl)
theorem dX0_burdenOf_8 : decode cX0_burdenOf 8 = .ok (.iload_n 2, 1) := dk_28 (dk_at dksX0_burdenOf_0 8 rfl rfl)
theorem dX0_burdenOf_9 : decode cX0_burdenOf 9 = .ok (.ifCond .ge 5, 3) := dk_156 0 5 (dk_at dksX0_burdenOf_0 9 rfl rfl)
theorem dX0_burdenOf_12 : decode cX0_burdenOf 12 = .ok (.iconst (-1), 1) := dk_2 (dk_at dksX0_burdenOf_0 12 rfl rfl)
theorem dX0_burdenOf_13 : decode cX0_burdenOf 13 = .ok (.ireturn, 1) := dk_172 (dk_at dksX0_burdenOf_0 13 rfl rfl)
theorem dX0_burdenOf_14 : decode cX0_burdenOf 14 = .ok (.iload_n 2, 1) := dk_28 (dk_at dksX0_burdenOf_0 14 rfl rfl)
theorem dX0_burdenOf_15 : decode cX0_burdenOf 15 = .ok (.istore_n 3, 1) := dk_62 (dk_at dksX0_burdenOf_0 15 rfl rfl)
theorem dX0_burdenOf_16 : decode cX0_burdenOf 16 = .ok (.new 357, 3) := dk_187 1 101 (dk_at dksX0_burdenOf_0 16 rfl rfl)
theorem dX0_burdenOf_19 : decode cX0_burdenOf 19 = .ok (.dup, 1) := dk_89 (dk_at dksX0_burdenOf_0 19 rfl rfl)
theorem dX0_burdenOf_20 : decode cX0_burdenOf 20 = .ok (.aload_n 0, 1) := dk_42 (dk_at dksX0_burdenOf_0 20 rfl rfl)
theorem dX0_burdenOf_21 : decode cX0_burdenOf 21 = .ok (.getfield 32, 3) := dk_180 0 32 (dk_at dksX0_burdenOf_0 21 rfl rfl)
theorem dX0_burdenOf_24 : decode cX0_burdenOf 24 = .ok (.iload_n 1, 1) := dk_27 (dk_at dksX0_burdenOf_1 0 rfl rfl)
theorem dX0_burdenOf_25 : decode cX0_burdenOf 25 = .ok (.invokespecial 359, 3) := dk_183 1 103 (dk_at dksX0_burdenOf_1 1 rfl rfl)
theorem dX0_burdenOf_28 : decode cX0_burdenOf 28 = .ok (.invokevirtual 362, 3) := dk_182 1 106 (dk_at dksX0_burdenOf_1 4 rfl rfl)
theorem dX0_burdenOf_31 : decode cX0_burdenOf 31 = .ok (.astore 4, 2) := dk_58 4 (dk_at dksX0_burdenOf_1 7 rfl rfl)
theorem dX0_burdenOf_33 : decode cX0_burdenOf 33 = .ok (.aload 4, 2) := dk_25 4 (dk_at dksX0_burdenOf_1 9 rfl rfl)
theorem dX0_burdenOf_35 : decode cX0_burdenOf 35 = .ok (.invokeinterface 366 1, 5) := by decide +kernel
theorem dX0_burdenOf_40 : decode cX0_burdenOf 40 = .ok (.ifCond .eq 31, 3) := dk_153 0 31 (dk_at dksX0_burdenOf_1 16 rfl rfl)
theorem dX0_burdenOf_43 : decode cX0_burdenOf 43 = .ok (.aload 4, 2) := dk_25 4 (dk_at dksX0_burdenOf_1 19 rfl rfl)
theorem dX0_burdenOf_45 : decode cX0_burdenOf 45 = .ok (.invokeinterface 371 1, 5) := by decide +kernel
theorem dX0_burdenOf_50 : decode cX0_burdenOf 50 = .ok (.checkcast 291, 3) := dk_192 1 35 (dk_at dksX0_burdenOf_2 5 rfl rfl)
theorem dX0_burdenOf_53 : decode cX0_burdenOf 53 = .ok (.astore 5, 2) := dk_58 5 (dk_at dksX0_burdenOf_2 8 rfl rfl)
theorem dX0_burdenOf_55 : decode cX0_burdenOf 55 = .ok (.iload_n 3, 1) := dk_29 (dk_at dksX0_burdenOf_2 10 rfl rfl)
theorem dX0_burdenOf_56 : decode cX0_burdenOf 56 = .ok (.ifCond .ne 9, 3) := dk_154 0 9 (dk_at dksX0_burdenOf_2 11 rfl rfl)
theorem dX0_burdenOf_59 : decode cX0_burdenOf 59 = .ok (.aload 5, 2) := dk_25 5 (dk_at dksX0_burdenOf_2 14 rfl rfl)
theorem dX0_burdenOf_61 : decode cX0_burdenOf 61 = .ok (.invokevirtual 444, 3) := dk_182 1 188 (dk_at dksX0_burdenOf_2 16 rfl rfl)
theorem dX0_burdenOf_64 : decode cX0_burdenOf 64 = .ok (.ireturn, 1) := dk_172 (dk_at dksX0_burdenOf_2 19 rfl rfl)
theorem dX0_burdenOf_65 : decode cX0_burdenOf 65 = .ok (.iinc 3 (-1), 3) := dk_132 3 255 (dk_at dksX0_burdenOf_2 20 rfl rfl)
theorem dX0_burdenOf_68 : decode cX0_burdenOf 68 = .ok (.goto (-35), 3) := dk_167 255 221 (dk_at dksX0_burdenOf_3 0 rfl rfl)
theorem dX0_burdenOf_71 : decode cX0_burdenOf 71 = .ok (.bipush (-2), 2) := dk_16 254 (dk_at dksX0_burdenOf_3 3 rfl rfl)
theorem dX0_burdenOf_73 : decode cX0_burdenOf 73 = .ok (.ireturn, 1) := dk_172 (dk_at dksX0_burdenOf_3 5 rfl rfl)
abbrev cX0_lies : ByteArray := prog_1_method_65_code
def yX0_lies : MethodName := ⟨RX0, "lies", "(II)I"⟩
def dkwX0_lies_3 : List UInt8 := [16, 254, 167, 0, 5, 21, 4, 172]
abbrev dktX0_lies_3 : List UInt8 := dkwX0_lies_3 ++ []
def dkwX0_lies_2 : List UInt8 := [155, 0, 19, 45, 21, 4, 4, 96, 182, 1, 191, 54, 4, 132, 5, 1, 167, 255, 232, 21, 4, 156, 0, 8]
abbrev dktX0_lies_2 : List UInt8 := dkwX0_lies_2 ++ dktX0_lies_3
def dkwX0_lies_1 : List UInt8 := [180, 1, 34, 78, 45, 3, 182, 1, 191, 54, 4, 3, 54, 5, 21, 5, 28, 162, 0, 24, 21, 4]
abbrev dktX0_lies_1 : List UInt8 := dkwX0_lies_1 ++ dktX0_lies_2
def dkwX0_lies_0 : List UInt8 := [42, 27, 182, 1, 21, 153, 0, 7, 28, 156, 0, 5, 2, 172, 42, 180, 0, 32, 27, 182, 1, 24]
abbrev dktX0_lies_0 : List UInt8 := dkwX0_lies_0 ++ dktX0_lies_1
theorem dksX0_lies_0 : cX0_lies.data.toList.drop 0 = dktX0_lies_0 := by decide +kernel
theorem dksX0_lies_1 : cX0_lies.data.toList.drop 22 = dktX0_lies_1 := dk_seg dksX0_lies_0 22 rfl rfl
theorem dksX0_lies_2 : cX0_lies.data.toList.drop 44 = dktX0_lies_2 := dk_seg dksX0_lies_1 22 rfl rfl
theorem dksX0_lies_3 : cX0_lies.data.toList.drop 68 = dktX0_lies_3 := dk_seg dksX0_lies_2 24 rfl rfl
theorem dX0_lies_0 : decode cX0_lies 0 = .ok (.aload_n 0, 1) := dk_42 (dk_at dksX0_lies_0 0 rfl rfl)
theorem dX0_lies_1 : decode cX0_lies 1 = .ok (.iload_n 1, 1) := dk_27 (dk_at dksX0_lies_0 1 rfl rfl)
theorem dX0_lies_2 : decode cX0_lies 2 = .ok (.invokevirtual 277, 3) := dk_182 1 21 (dk_at dksX0_lies_0 2 rfl rfl)
theorem dX0_lies_5 : decode cX0_lies 5 = .ok (.ifCond .eq 7, 3) := dk_153 0 7 (dk_at dksX0_lies_0 5 rfl rfl)
theorem dX0_lies_8 : decode cX0_lies 8 = .ok (.iload_n 2, 1) := dk_28 (dk_at dksX0_lies_0 8 rfl rfl)
theorem dX0_lies_9 : decode cX0_lies 9 = .ok (.ifCond .ge 5, 3) := dk_156 0 5 (dk_at dksX0_lies_0 9 rfl rfl)
theorem dX0_lies_12 : decode cX0_lies 12 = .ok (.iconst (-1), 1) := dk_2 (dk_at dksX0_lies_0 12 rfl rfl)
theorem dX0_lies_13 : decode cX0_lies 13 = .ok (.ireturn, 1) := dk_172 (dk_at dksX0_lies_0 13 rfl rfl)
theorem dX0_lies_14 : decode cX0_lies 14 = .ok (.aload_n 0, 1) := dk_42 (dk_at dksX0_lies_0 14 rfl rfl)
theorem dX0_lies_15 : decode cX0_lies 15 = .ok (.getfield 32, 3) := dk_180 0 32 (dk_at dksX0_lies_0 15 rfl rfl)
theorem dX0_lies_18 : decode cX0_lies 18 = .ok (.iload_n 1, 1) := dk_27 (dk_at dksX0_lies_0 18 rfl rfl)
theorem dX0_lies_19 : decode cX0_lies 19 = .ok (.invokevirtual 280, 3) := dk_182 1 24 (dk_at dksX0_lies_0 19 rfl rfl)
theorem dX0_lies_22 : decode cX0_lies 22 = .ok (.getfield 290, 3) := dk_180 1 34 (dk_at dksX0_lies_1 0 rfl rfl)
theorem dX0_lies_25 : decode cX0_lies 25 = .ok (.astore_n 3, 1) := dk_78 (dk_at dksX0_lies_1 3 rfl rfl)
theorem dX0_lies_26 : decode cX0_lies 26 = .ok (.aload_n 3, 1) := dk_45 (dk_at dksX0_lies_1 4 rfl rfl)
theorem dX0_lies_27 : decode cX0_lies 27 = .ok (.iconst 0, 1) := dk_3 (dk_at dksX0_lies_1 5 rfl rfl)
theorem dX0_lies_28 : decode cX0_lies 28 = .ok (.invokevirtual 447, 3) := dk_182 1 191 (dk_at dksX0_lies_1 6 rfl rfl)
theorem dX0_lies_31 : decode cX0_lies 31 = .ok (.istore 4, 2) := dk_54 4 (dk_at dksX0_lies_1 9 rfl rfl)
theorem dX0_lies_33 : decode cX0_lies 33 = .ok (.iconst 0, 1) := dk_3 (dk_at dksX0_lies_1 11 rfl rfl)
theorem dX0_lies_34 : decode cX0_lies 34 = .ok (.istore 5, 2) := dk_54 5 (dk_at dksX0_lies_1 12 rfl rfl)
theorem dX0_lies_36 : decode cX0_lies 36 = .ok (.iload 5, 2) := dk_21 5 (dk_at dksX0_lies_1 14 rfl rfl)
theorem dX0_lies_38 : decode cX0_lies 38 = .ok (.iload_n 2, 1) := dk_28 (dk_at dksX0_lies_1 16 rfl rfl)
theorem dX0_lies_39 : decode cX0_lies 39 = .ok (.if_icmp .ge 24, 3) := dk_162 0 24 (dk_at dksX0_lies_1 17 rfl rfl)
theorem dX0_lies_42 : decode cX0_lies 42 = .ok (.iload 4, 2) := dk_21 4 (dk_at dksX0_lies_1 20 rfl rfl)
theorem dX0_lies_44 : decode cX0_lies 44 = .ok (.ifCond .lt 19, 3) := dk_155 0 19 (dk_at dksX0_lies_2 0 rfl rfl)
theorem dX0_lies_47 : decode cX0_lies 47 = .ok (.aload_n 3, 1) := dk_45 (dk_at dksX0_lies_2 3 rfl rfl)
theorem dX0_lies_48 : decode cX0_lies 48 = .ok (.iload 4, 2) := dk_21 4 (dk_at dksX0_lies_2 4 rfl rfl)
theorem dX0_lies_50 : decode cX0_lies 50 = .ok (.iconst 1, 1) := dk_4 (dk_at dksX0_lies_2 6 rfl rfl)
theorem dX0_lies_51 : decode cX0_lies 51 = .ok (.iadd, 1) := dk_96 (dk_at dksX0_lies_2 7 rfl rfl)
theorem dX0_lies_52 : decode cX0_lies 52 = .ok (.invokevirtual 447, 3) := dk_182 1 191 (dk_at dksX0_lies_2 8 rfl rfl)
theorem dX0_lies_55 : decode cX0_lies 55 = .ok (.istore 4, 2) := dk_54 4 (dk_at dksX0_lies_2 11 rfl rfl)
theorem dX0_lies_57 : decode cX0_lies 57 = .ok (.iinc 5 1, 3) := dk_132 5 1 (dk_at dksX0_lies_2 13 rfl rfl)
theorem dX0_lies_60 : decode cX0_lies 60 = .ok (.goto (-24), 3) := dk_167 255 232 (dk_at dksX0_lies_2 16 rfl rfl)
theorem dX0_lies_63 : decode cX0_lies 63 = .ok (.iload 4, 2) := dk_21 4 (dk_at dksX0_lies_2 19 rfl rfl)
theorem dX0_lies_65 : decode cX0_lies 65 = .ok (.ifCond .ge 8, 3) := dk_156 0 8 (dk_at dksX0_lies_2 21 rfl rfl)
theorem dX0_lies_68 : decode cX0_lies 68 = .ok (.bipush (-2), 2) := dk_16 254 (dk_at dksX0_lies_3 0 rfl rfl)
theorem dX0_lies_70 : decode cX0_lies 70 = .ok (.goto 5, 3) := dk_167 0 5 (dk_at dksX0_lies_3 2 rfl rfl)
theorem dX0_lies_73 : decode cX0_lies 73 = .ok (.iload 4, 2) := dk_21 4 (dk_at dksX0_lies_3 5 rfl rfl)
theorem dX0_lies_75 : decode cX0_lies 75 = .ok (.ireturn, 1) := dk_172 (dk_at dksX0_lies_3 7 rfl rfl)
abbrev cX0_rank : ByteArray := prog_1_method_66_code
def yX0_rank : MethodName := ⟨RX0, "rank", "(II)I"⟩
def dkwX0_rank_3 : List UInt8 := [132, 3, 1, 167, 255, 220, 16, 254, 172]
abbrev dktX0_rank_3 : List UInt8 := dkwX0_rank_3 ++ []
def dkwX0_rank_2 : List UInt8 := [25, 4, 185, 1, 115, 1, 0, 192, 1, 35, 58, 5, 25, 5, 182, 1, 188, 27, 160, 0, 5, 29, 172]
abbrev dktX0_rank_2 : List UInt8 := dkwX0_rank_2 ++ dktX0_rank_3
def dkwX0_rank_1 : List UInt8 := [42, 180, 0, 32, 28, 183, 1, 103, 182, 1, 106, 58, 4, 25, 4, 185, 1, 110, 1, 0, 153, 0, 32]
abbrev dktX0_rank_1 : List UInt8 := dkwX0_rank_1 ++ dktX0_rank_2
def dkwX0_rank_0 : List UInt8 := [42, 27, 182, 1, 21, 153, 0, 11, 42, 28, 182, 0, 110, 154, 0, 5, 2, 172, 3, 62, 187, 1, 101, 89]
abbrev dktX0_rank_0 : List UInt8 := dkwX0_rank_0 ++ dktX0_rank_1
theorem dksX0_rank_0 : cX0_rank.data.toList.drop 0 = dktX0_rank_0 := by decide +kernel
theorem dksX0_rank_1 : cX0_rank.data.toList.drop 24 = dktX0_rank_1 := dk_seg dksX0_rank_0 24 rfl rfl
theorem dksX0_rank_2 : cX0_rank.data.toList.drop 47 = dktX0_rank_2 := dk_seg dksX0_rank_1 23 rfl rfl
theorem dksX0_rank_3 : cX0_rank.data.toList.drop 70 = dktX0_rank_3 := dk_seg dksX0_rank_2 23 rfl rfl
theorem dX0_rank_0 : decode cX0_rank 0 = .ok (.aload_n 0, 1) := dk_42 (dk_at dksX0_rank_0 0 rfl rfl)
theorem dX0_rank_1 : decode cX0_rank 1 = .ok (.iload_n 1, 1) := dk_27 (dk_at dksX0_rank_0 1 rfl rfl)
theorem dX0_rank_2 : decode cX0_rank 2 = .ok (.invokevirtual 277, 3) := dk_182 1 21 (dk_at dksX0_rank_0 2 rfl rfl)
theorem dX0_rank_5 : decode cX0_rank 5 = .ok (.ifCond .eq 11, 3) := dk_153 0 11 (dk_at dksX0_rank_0 5 rfl rfl)
theorem dX0_rank_8 : decode cX0_rank 8 = .ok (.aload_n 0, 1) := dk_42 (dk_at dksX0_rank_0 8 rfl rfl)
theorem dX0_rank_9 : decode cX0_rank 9 = .ok (.iload_n 2, 1) := dk_28 (dk_at dksX0_rank_0 9 rfl rfl)
theorem dX0_rank_10 : decode cX0_rank 10 = .ok (.invokevirtual 110, 3) := dk_182 0 110 (dk_at dksX0_rank_0 10 rfl rfl)
theorem dX0_rank_13 : decode cX0_rank 13 = .ok (.ifCond .ne 5, 3) := dk_154 0 5 (dk_at dksX0_rank_0 13 rfl rfl)
theorem dX0_rank_16 : decode cX0_rank 16 = .ok (.iconst (-1), 1) := dk_2 (dk_at dksX0_rank_0 16 rfl rfl)
theorem dX0_rank_17 : decode cX0_rank 17 = .ok (.ireturn, 1) := dk_172 (dk_at dksX0_rank_0 17 rfl rfl)
theorem dX0_rank_18 : decode cX0_rank 18 = .ok (.iconst 0, 1) := dk_3 (dk_at dksX0_rank_0 18 rfl rfl)
theorem dX0_rank_19 : decode cX0_rank 19 = .ok (.istore_n 3, 1) := dk_62 (dk_at dksX0_rank_0 19 rfl rfl)
theorem dX0_rank_20 : decode cX0_rank 20 = .ok (.new 357, 3) := dk_187 1 101 (dk_at dksX0_rank_0 20 rfl rfl)
theorem dX0_rank_23 : decode cX0_rank 23 = .ok (.dup, 1) := dk_89 (dk_at dksX0_rank_0 23 rfl rfl)
theorem dX0_rank_24 : decode cX0_rank 24 = .ok (.aload_n 0, 1) := dk_42 (dk_at dksX0_rank_1 0 rfl rfl)
theorem dX0_rank_25 : decode cX0_rank 25 = .ok (.getfield 32, 3) := dk_180 0 32 (dk_at dksX0_rank_1 1 rfl rfl)
theorem dX0_rank_28 : decode cX0_rank 28 = .ok (.iload_n 2, 1) := dk_28 (dk_at dksX0_rank_1 4 rfl rfl)
theorem dX0_rank_29 : decode cX0_rank 29 = .ok (.invokespecial 359, 3) := dk_183 1 103 (dk_at dksX0_rank_1 5 rfl rfl)
theorem dX0_rank_32 : decode cX0_rank 32 = .ok (.invokevirtual 362, 3) := dk_182 1 106 (dk_at dksX0_rank_1 8 rfl rfl)
theorem dX0_rank_35 : decode cX0_rank 35 = .ok (.astore 4, 2) := dk_58 4 (dk_at dksX0_rank_1 11 rfl rfl)
theorem dX0_rank_37 : decode cX0_rank 37 = .ok (.aload 4, 2) := dk_25 4 (dk_at dksX0_rank_1 13 rfl rfl)
theorem dX0_rank_39 : decode cX0_rank 39 = .ok (.invokeinterface 366 1, 5) := by decide +kernel
theorem dX0_rank_44 : decode cX0_rank 44 = .ok (.ifCond .eq 32, 3) := dk_153 0 32 (dk_at dksX0_rank_1 20 rfl rfl)
theorem dX0_rank_47 : decode cX0_rank 47 = .ok (.aload 4, 2) := dk_25 4 (dk_at dksX0_rank_2 0 rfl rfl)
theorem dX0_rank_49 : decode cX0_rank 49 = .ok (.invokeinterface 371 1, 5) := by decide +kernel
theorem dX0_rank_54 : decode cX0_rank 54 = .ok (.checkcast 291, 3) := dk_192 1 35 (dk_at dksX0_rank_2 7 rfl rfl)
theorem dX0_rank_57 : decode cX0_rank 57 = .ok (.astore 5, 2) := dk_58 5 (dk_at dksX0_rank_2 10 rfl rfl)
theorem dX0_rank_59 : decode cX0_rank 59 = .ok (.aload 5, 2) := dk_25 5 (dk_at dksX0_rank_2 12 rfl rfl)
theorem dX0_rank_61 : decode cX0_rank 61 = .ok (.invokevirtual 444, 3) := dk_182 1 188 (dk_at dksX0_rank_2 14 rfl rfl)
theorem dX0_rank_64 : decode cX0_rank 64 = .ok (.iload_n 1, 1) := dk_27 (dk_at dksX0_rank_2 17 rfl rfl)
theorem dX0_rank_65 : decode cX0_rank 65 = .ok (.if_icmp .ne 5, 3) := dk_160 0 5 (dk_at dksX0_rank_2 18 rfl rfl)
theorem dX0_rank_68 : decode cX0_rank 68 = .ok (.iload_n 3, 1) := dk_29 (dk_at dksX0_rank_2 21 rfl rfl)
theorem dX0_rank_69 : decode cX0_rank 69 = .ok (.ireturn, 1) := dk_172 (dk_at dksX0_rank_2 22 rfl rfl)
theorem dX0_rank_70 : decode cX0_rank 70 = .ok (.iinc 3 1, 3) := dk_132 3 1 (dk_at dksX0_rank_3 0 rfl rfl)
theorem dX0_rank_73 : decode cX0_rank 73 = .ok (.goto (-36), 3) := dk_167 255 220 (dk_at dksX0_rank_3 3 rfl rfl)
theorem dX0_rank_76 : decode cX0_rank 76 = .ok (.bipush (-2), 2) := dk_16 254 (dk_at dksX0_rank_3 6 rfl rfl)
theorem dX0_rank_78 : decode cX0_rank 78 = .ok (.ireturn, 1) := dk_172 (dk_at dksX0_rank_3 8 rfl rfl)
abbrev cX0_joinable : ByteArray := prog_1_method_68_code
def yX0_joinable : MethodName := ⟨RX0, "joinable", "(II)I"⟩
def dkwX0_joinable_3 : List UInt8 := [4, 167, 0, 4, 3, 100, 62, 132, 4, 1, 167, 255, 196, 16, 254, 172]
abbrev dktX0_joinable_3 : List UInt8 := dkwX0_joinable_3 ++ []
def dkwX0_joinable_2 : List UInt8 := [167, 0, 4, 3, 54, 5, 21, 5, 153, 0, 10, 29, 154, 0, 6, 21, 4, 172, 29, 21, 5, 153, 0, 7]
abbrev dktX0_joinable_2 : List UInt8 := dkwX0_joinable_2 ++ dktX0_joinable_3
def dkwX0_joinable_1 : List UInt8 := [180, 0, 32, 180, 0, 89, 182, 0, 92, 162, 0, 51, 42, 27, 21, 4, 182, 0, 223, 154, 0, 7, 4]
abbrev dktX0_joinable_1 : List UInt8 := dkwX0_joinable_1 ++ dktX0_joinable_2
def dkwX0_joinable_0 : List UInt8 := [42, 27, 182, 0, 110, 153, 0, 7, 28, 156, 0, 5, 2, 172, 28, 62, 3, 54, 4, 21, 4, 42]
abbrev dktX0_joinable_0 : List UInt8 := dkwX0_joinable_0 ++ dktX0_joinable_1
theorem dksX0_joinable_0 : cX0_joinable.data.toList.drop 0 = dktX0_joinable_0 := by decide +kernel
theorem dksX0_joinable_1 : cX0_joinable.data.toList.drop 22 = dktX0_joinable_1 := dk_seg dksX0_joinable_0 22 rfl rfl
theorem dksX0_joinable_2 : cX0_joinable.data.toList.drop 45 = dktX0_joinable_2 := dk_seg dksX0_joinable_1 23 rfl rfl
theorem dksX0_joinable_3 : cX0_joinable.data.toList.drop 69 = dktX0_joinable_3 := dk_seg dksX0_joinable_2 24 rfl rfl
theorem dX0_joinable_0 : decode cX0_joinable 0 = .ok (.aload_n 0, 1) := dk_42 (dk_at dksX0_joinable_0 0 rfl rfl)
theorem dX0_joinable_1 : decode cX0_joinable 1 = .ok (.iload_n 1, 1) := dk_27 (dk_at dksX0_joinable_0 1 rfl rfl)
theorem dX0_joinable_2 : decode cX0_joinable 2 = .ok (.invokevirtual 110, 3) := dk_182 0 110 (dk_at dksX0_joinable_0 2 rfl rfl)
theorem dX0_joinable_5 : decode cX0_joinable 5 = .ok (.ifCond .eq 7, 3) := dk_153 0 7 (dk_at dksX0_joinable_0 5 rfl rfl)
theorem dX0_joinable_8 : decode cX0_joinable 8 = .ok (.iload_n 2, 1) := dk_28 (dk_at dksX0_joinable_0 8 rfl rfl)
theorem dX0_joinable_9 : decode cX0_joinable 9 = .ok (.ifCond .ge 5, 3) := dk_156 0 5 (dk_at dksX0_joinable_0 9 rfl rfl)
theorem dX0_joinable_12 : decode cX0_joinable 12 = .ok (.iconst (-1), 1) := dk_2 (dk_at dksX0_joinable_0 12 rfl rfl)
theorem dX0_joinable_13 : decode cX0_joinable 13 = .ok (.ireturn, 1) := dk_172 (dk_at dksX0_joinable_0 13 rfl rfl)
theorem dX0_joinable_14 : decode cX0_joinable 14 = .ok (.iload_n 2, 1) := dk_28 (dk_at dksX0_joinable_0 14 rfl rfl)
theorem dX0_joinable_15 : decode cX0_joinable 15 = .ok (.istore_n 3, 1) := dk_62 (dk_at dksX0_joinable_0 15 rfl rfl)
theorem dX0_joinable_16 : decode cX0_joinable 16 = .ok (.iconst 0, 1) := dk_3 (dk_at dksX0_joinable_0 16 rfl rfl)
theorem dX0_joinable_17 : decode cX0_joinable 17 = .ok (.istore 4, 2) := dk_54 4 (dk_at dksX0_joinable_0 17 rfl rfl)
theorem dX0_joinable_19 : decode cX0_joinable 19 = .ok (.iload 4, 2) := dk_21 4 (dk_at dksX0_joinable_0 19 rfl rfl)
theorem dX0_joinable_21 : decode cX0_joinable 21 = .ok (.aload_n 0, 1) := dk_42 (dk_at dksX0_joinable_0 21 rfl rfl)
theorem dX0_joinable_22 : decode cX0_joinable 22 = .ok (.getfield 32, 3) := dk_180 0 32 (dk_at dksX0_joinable_1 0 rfl rfl)
theorem dX0_joinable_25 : decode cX0_joinable 25 = .ok (.getfield 89, 3) := dk_180 0 89 (dk_at dksX0_joinable_1 3 rfl rfl)
theorem dX0_joinable_28 : decode cX0_joinable 28 = .ok (.invokevirtual 92, 3) := dk_182 0 92 (dk_at dksX0_joinable_1 6 rfl rfl)
theorem dX0_joinable_31 : decode cX0_joinable 31 = .ok (.if_icmp .ge 51, 3) := dk_162 0 51 (dk_at dksX0_joinable_1 9 rfl rfl)
theorem dX0_joinable_34 : decode cX0_joinable 34 = .ok (.aload_n 0, 1) := dk_42 (dk_at dksX0_joinable_1 12 rfl rfl)
theorem dX0_joinable_35 : decode cX0_joinable 35 = .ok (.iload_n 1, 1) := dk_27 (dk_at dksX0_joinable_1 13 rfl rfl)
theorem dX0_joinable_36 : decode cX0_joinable 36 = .ok (.iload 4, 2) := dk_21 4 (dk_at dksX0_joinable_1 14 rfl rfl)
theorem dX0_joinable_38 : decode cX0_joinable 38 = .ok (.invokevirtual 223, 3) := dk_182 0 223 (dk_at dksX0_joinable_1 16 rfl rfl)
theorem dX0_joinable_41 : decode cX0_joinable 41 = .ok (.ifCond .ne 7, 3) := dk_154 0 7 (dk_at dksX0_joinable_1 19 rfl rfl)
theorem dX0_joinable_44 : decode cX0_joinable 44 = .ok (.iconst 1, 1) := dk_4 (dk_at dksX0_joinable_1 22 rfl rfl)
theorem dX0_joinable_45 : decode cX0_joinable 45 = .ok (.goto 4, 3) := dk_167 0 4 (dk_at dksX0_joinable_2 0 rfl rfl)
theorem dX0_joinable_48 : decode cX0_joinable 48 = .ok (.iconst 0, 1) := dk_3 (dk_at dksX0_joinable_2 3 rfl rfl)
theorem dX0_joinable_49 : decode cX0_joinable 49 = .ok (.istore 5, 2) := dk_54 5 (dk_at dksX0_joinable_2 4 rfl rfl)
theorem dX0_joinable_51 : decode cX0_joinable 51 = .ok (.iload 5, 2) := dk_21 5 (dk_at dksX0_joinable_2 6 rfl rfl)
theorem dX0_joinable_53 : decode cX0_joinable 53 = .ok (.ifCond .eq 10, 3) := dk_153 0 10 (dk_at dksX0_joinable_2 8 rfl rfl)
theorem dX0_joinable_56 : decode cX0_joinable 56 = .ok (.iload_n 3, 1) := dk_29 (dk_at dksX0_joinable_2 11 rfl rfl)
theorem dX0_joinable_57 : decode cX0_joinable 57 = .ok (.ifCond .ne 6, 3) := dk_154 0 6 (dk_at dksX0_joinable_2 12 rfl rfl)
theorem dX0_joinable_60 : decode cX0_joinable 60 = .ok (.iload 4, 2) := dk_21 4 (dk_at dksX0_joinable_2 15 rfl rfl)
theorem dX0_joinable_62 : decode cX0_joinable 62 = .ok (.ireturn, 1) := dk_172 (dk_at dksX0_joinable_2 17 rfl rfl)
theorem dX0_joinable_63 : decode cX0_joinable 63 = .ok (.iload_n 3, 1) := dk_29 (dk_at dksX0_joinable_2 18 rfl rfl)
theorem dX0_joinable_64 : decode cX0_joinable 64 = .ok (.iload 5, 2) := dk_21 5 (dk_at dksX0_joinable_2 19 rfl rfl)
theorem dX0_joinable_66 : decode cX0_joinable 66 = .ok (.ifCond .eq 7, 3) := dk_153 0 7 (dk_at dksX0_joinable_2 21 rfl rfl)
theorem dX0_joinable_69 : decode cX0_joinable 69 = .ok (.iconst 1, 1) := dk_4 (dk_at dksX0_joinable_3 0 rfl rfl)
theorem dX0_joinable_70 : decode cX0_joinable 70 = .ok (.goto 4, 3) := dk_167 0 4 (dk_at dksX0_joinable_3 1 rfl rfl)
theorem dX0_joinable_73 : decode cX0_joinable 73 = .ok (.iconst 0, 1) := dk_3 (dk_at dksX0_joinable_3 4 rfl rfl)
theorem dX0_joinable_74 : decode cX0_joinable 74 = .ok (.isub, 1) := dk_100 (dk_at dksX0_joinable_3 5 rfl rfl)
theorem dX0_joinable_75 : decode cX0_joinable 75 = .ok (.istore_n 3, 1) := dk_62 (dk_at dksX0_joinable_3 6 rfl rfl)
theorem dX0_joinable_76 : decode cX0_joinable 76 = .ok (.iinc 4 1, 3) := dk_132 4 1 (dk_at dksX0_joinable_3 7 rfl rfl)
theorem dX0_joinable_79 : decode cX0_joinable 79 = .ok (.goto (-60), 3) := dk_167 255 196 (dk_at dksX0_joinable_3 10 rfl rfl)
theorem dX0_joinable_82 : decode cX0_joinable 82 = .ok (.bipush (-2), 2) := dk_16 254 (dk_at dksX0_joinable_3 13 rfl rfl)
theorem dX0_joinable_84 : decode cX0_joinable 84 = .ok (.ireturn, 1) := dk_172 (dk_at dksX0_joinable_3 15 rfl rfl)
abbrev cX0_ifSplit : ByteArray := prog_1_method_71_code
def yX0_ifSplit : MethodName := ⟨RX0, "ifSplit", "(IIII)I"⟩
def dkwX0_ifSplit_6 : List UInt8 := [104, 96, 42, 180, 0, 32, 27, 182, 1, 136, 100, 184, 1, 215, 172]
abbrev dktX0_ifSplit_6 : List UInt8 := dkwX0_ifSplit_6 ++ []
def dkwX0_ifSplit_5 : List UInt8 := [167, 0, 8, 25, 5, 180, 0, 106, 104, 54, 8, 3, 17, 78, 32, 21, 8, 42, 180, 0, 32, 180, 1, 69]
abbrev dktX0_ifSplit_5 : List UInt8 := dkwX0_ifSplit_5 ++ dktX0_ifSplit_6
def dkwX0_ifSplit_4 : List UInt8 := [167, 0, 8, 25, 5, 180, 0, 109, 29, 100, 54, 7, 21, 7, 28, 4, 160, 0, 11, 25, 5, 180, 0, 109]
abbrev dktX0_ifSplit_4 : List UInt8 := dkwX0_ifSplit_4 ++ dktX0_ifSplit_5
def dkwX0_ifSplit_3 : List UInt8 := [182, 1, 211, 172, 21, 6, 153, 0, 7, 29, 167, 0, 23, 28, 4, 160, 0, 11, 25, 5, 180, 0, 106]
abbrev dktX0_ifSplit_3 : List UInt8 := dkwX0_ifSplit_3 ++ dktX0_ifSplit_4
def dkwX0_ifSplit_2 : List UInt8 := [154, 0, 7, 4, 167, 0, 4, 3, 54, 6, 21, 4, 5, 162, 0, 13, 42, 27, 28, 29, 21, 6]
abbrev dktX0_ifSplit_2 : List UInt8 := dkwX0_ifSplit_2 ++ dktX0_ifSplit_3
def dkwX0_ifSplit_1 : List UInt8 := [180, 0, 32, 27, 182, 0, 116, 58, 5, 25, 5, 182, 1, 59, 154, 0, 6, 16, 252, 172, 21, 4, 5, 112]
abbrev dktX0_ifSplit_1 : List UInt8 := dkwX0_ifSplit_1 ++ dktX0_ifSplit_2
def dkwX0_ifSplit_0 : List UInt8 := [42, 27, 28, 29, 182, 0, 210, 153, 0, 13, 21, 4, 3, 6, 184, 0, 78, 154, 0, 5, 2, 172, 42]
abbrev dktX0_ifSplit_0 : List UInt8 := dkwX0_ifSplit_0 ++ dktX0_ifSplit_1
theorem dksX0_ifSplit_0 : cX0_ifSplit.data.toList.drop 0 = dktX0_ifSplit_0 := by decide +kernel
theorem dksX0_ifSplit_1 : cX0_ifSplit.data.toList.drop 23 = dktX0_ifSplit_1 := dk_seg dksX0_ifSplit_0 23 rfl rfl
theorem dksX0_ifSplit_2 : cX0_ifSplit.data.toList.drop 47 = dktX0_ifSplit_2 := dk_seg dksX0_ifSplit_1 24 rfl rfl
theorem dksX0_ifSplit_3 : cX0_ifSplit.data.toList.drop 69 = dktX0_ifSplit_3 := dk_seg dksX0_ifSplit_2 22 rfl rfl
theorem dksX0_ifSplit_4 : cX0_ifSplit.data.toList.drop 92 = dktX0_ifSplit_4 := dk_seg dksX0_ifSplit_3 23 rfl rfl
theorem dksX0_ifSplit_5 : cX0_ifSplit.data.toList.drop 116 = dktX0_ifSplit_5 := dk_seg dksX0_ifSplit_4 24 rfl rfl
theorem dksX0_ifSplit_6 : cX0_ifSplit.data.toList.drop 140 = dktX0_ifSplit_6 := dk_seg dksX0_ifSplit_5 24 rfl rfl
theorem dX0_ifSplit_0 : decode cX0_ifSplit 0 = .ok (.aload_n 0, 1) := dk_42 (dk_at dksX0_ifSplit_0 0 rfl rfl)
theorem dX0_ifSplit_1 : decode cX0_ifSplit 1 = .ok (.iload_n 1, 1) := dk_27 (dk_at dksX0_ifSplit_0 1 rfl rfl)
theorem dX0_ifSplit_2 : decode cX0_ifSplit 2 = .ok (.iload_n 2, 1) := dk_28 (dk_at dksX0_ifSplit_0 2 rfl rfl)
theorem dX0_ifSplit_3 : decode cX0_ifSplit 3 = .ok (.iload_n 3, 1) := dk_29 (dk_at dksX0_ifSplit_0 3 rfl rfl)
theorem dX0_ifSplit_4 : decode cX0_ifSplit 4 = .ok (.invokevirtual 210, 3) := dk_182 0 210 (dk_at dksX0_ifSplit_0 4 rfl rfl)
theorem dX0_ifSplit_7 : decode cX0_ifSplit 7 = .ok (.ifCond .eq 13, 3) := dk_153 0 13 (dk_at dksX0_ifSplit_0 7 rfl rfl)
theorem dX0_ifSplit_10 : decode cX0_ifSplit 10 = .ok (.iload 4, 2) := dk_21 4 (dk_at dksX0_ifSplit_0 10 rfl rfl)
theorem dX0_ifSplit_12 : decode cX0_ifSplit 12 = .ok (.iconst 0, 1) := dk_3 (dk_at dksX0_ifSplit_0 12 rfl rfl)
theorem dX0_ifSplit_13 : decode cX0_ifSplit 13 = .ok (.iconst 3, 1) := dk_6 (dk_at dksX0_ifSplit_0 13 rfl rfl)
theorem dX0_ifSplit_14 : decode cX0_ifSplit 14 = .ok (.invokestatic 78, 3) := dk_184 0 78 (dk_at dksX0_ifSplit_0 14 rfl rfl)
theorem dX0_ifSplit_17 : decode cX0_ifSplit 17 = .ok (.ifCond .ne 5, 3) := dk_154 0 5 (dk_at dksX0_ifSplit_0 17 rfl rfl)
theorem dX0_ifSplit_20 : decode cX0_ifSplit 20 = .ok (.iconst (-1), 1) := dk_2 (dk_at dksX0_ifSplit_0 20 rfl rfl)
theorem dX0_ifSplit_21 : decode cX0_ifSplit 21 = .ok (.ireturn, 1) := dk_172 (dk_at dksX0_ifSplit_0 21 rfl rfl)
theorem dX0_ifSplit_22 : decode cX0_ifSplit 22 = .ok (.aload_n 0, 1) := dk_42 (dk_at dksX0_ifSplit_0 22 rfl rfl)
theorem dX0_ifSplit_23 : decode cX0_ifSplit 23 = .ok (.getfield 32, 3) := dk_180 0 32 (dk_at dksX0_ifSplit_1 0 rfl rfl)
theorem dX0_ifSplit_26 : decode cX0_ifSplit 26 = .ok (.iload_n 1, 1) := dk_27 (dk_at dksX0_ifSplit_1 3 rfl rfl)
theorem dX0_ifSplit_27 : decode cX0_ifSplit 27 = .ok (.invokevirtual 116, 3) := dk_182 0 116 (dk_at dksX0_ifSplit_1 4 rfl rfl)
theorem dX0_ifSplit_30 : decode cX0_ifSplit 30 = .ok (.astore 5, 2) := dk_58 5 (dk_at dksX0_ifSplit_1 7 rfl rfl)
theorem dX0_ifSplit_32 : decode cX0_ifSplit 32 = .ok (.aload 5, 2) := dk_25 5 (dk_at dksX0_ifSplit_1 9 rfl rfl)
theorem dX0_ifSplit_34 : decode cX0_ifSplit 34 = .ok (.invokevirtual 315, 3) := dk_182 1 59 (dk_at dksX0_ifSplit_1 11 rfl rfl)
theorem dX0_ifSplit_37 : decode cX0_ifSplit 37 = .ok (.ifCond .ne 6, 3) := dk_154 0 6 (dk_at dksX0_ifSplit_1 14 rfl rfl)
theorem dX0_ifSplit_40 : decode cX0_ifSplit 40 = .ok (.bipush (-4), 2) := dk_16 252 (dk_at dksX0_ifSplit_1 17 rfl rfl)
theorem dX0_ifSplit_42 : decode cX0_ifSplit 42 = .ok (.ireturn, 1) := dk_172 (dk_at dksX0_ifSplit_1 19 rfl rfl)
theorem dX0_ifSplit_43 : decode cX0_ifSplit 43 = .ok (.iload 4, 2) := dk_21 4 (dk_at dksX0_ifSplit_1 20 rfl rfl)
theorem dX0_ifSplit_45 : decode cX0_ifSplit 45 = .ok (.iconst 2, 1) := dk_5 (dk_at dksX0_ifSplit_1 22 rfl rfl)
theorem dX0_ifSplit_46 : decode cX0_ifSplit 46 = .ok (.irem, 1) := dk_112 (dk_at dksX0_ifSplit_1 23 rfl rfl)
theorem dX0_ifSplit_47 : decode cX0_ifSplit 47 = .ok (.ifCond .ne 7, 3) := dk_154 0 7 (dk_at dksX0_ifSplit_2 0 rfl rfl)
theorem dX0_ifSplit_50 : decode cX0_ifSplit 50 = .ok (.iconst 1, 1) := dk_4 (dk_at dksX0_ifSplit_2 3 rfl rfl)
theorem dX0_ifSplit_51 : decode cX0_ifSplit 51 = .ok (.goto 4, 3) := dk_167 0 4 (dk_at dksX0_ifSplit_2 4 rfl rfl)
theorem dX0_ifSplit_54 : decode cX0_ifSplit 54 = .ok (.iconst 0, 1) := dk_3 (dk_at dksX0_ifSplit_2 7 rfl rfl)
theorem dX0_ifSplit_55 : decode cX0_ifSplit 55 = .ok (.istore 6, 2) := dk_54 6 (dk_at dksX0_ifSplit_2 8 rfl rfl)
theorem dX0_ifSplit_57 : decode cX0_ifSplit 57 = .ok (.iload 4, 2) := dk_21 4 (dk_at dksX0_ifSplit_2 10 rfl rfl)
theorem dX0_ifSplit_59 : decode cX0_ifSplit 59 = .ok (.iconst 2, 1) := dk_5 (dk_at dksX0_ifSplit_2 12 rfl rfl)
theorem dX0_ifSplit_60 : decode cX0_ifSplit 60 = .ok (.if_icmp .ge 13, 3) := dk_162 0 13 (dk_at dksX0_ifSplit_2 13 rfl rfl)
theorem dX0_ifSplit_63 : decode cX0_ifSplit 63 = .ok (.aload_n 0, 1) := dk_42 (dk_at dksX0_ifSplit_2 16 rfl rfl)
theorem dX0_ifSplit_64 : decode cX0_ifSplit 64 = .ok (.iload_n 1, 1) := dk_27 (dk_at dksX0_ifSplit_2 17 rfl rfl)
theorem dX0_ifSplit_65 : decode cX0_ifSplit 65 = .ok (.iload_n 2, 1) := dk_28 (dk_at dksX0_ifSplit_2 18 rfl rfl)
theorem dX0_ifSplit_66 : decode cX0_ifSplit 66 = .ok (.iload_n 3, 1) := dk_29 (dk_at dksX0_ifSplit_2 19 rfl rfl)
theorem dX0_ifSplit_67 : decode cX0_ifSplit 67 = .ok (.iload 6, 2) := dk_21 6 (dk_at dksX0_ifSplit_2 20 rfl rfl)
theorem dX0_ifSplit_69 : decode cX0_ifSplit 69 = .ok (.invokevirtual 467, 3) := dk_182 1 211 (dk_at dksX0_ifSplit_3 0 rfl rfl)
theorem dX0_ifSplit_72 : decode cX0_ifSplit 72 = .ok (.ireturn, 1) := dk_172 (dk_at dksX0_ifSplit_3 3 rfl rfl)
theorem dX0_ifSplit_73 : decode cX0_ifSplit 73 = .ok (.iload 6, 2) := dk_21 6 (dk_at dksX0_ifSplit_3 4 rfl rfl)
theorem dX0_ifSplit_75 : decode cX0_ifSplit 75 = .ok (.ifCond .eq 7, 3) := dk_153 0 7 (dk_at dksX0_ifSplit_3 6 rfl rfl)
theorem dX0_ifSplit_78 : decode cX0_ifSplit 78 = .ok (.iload_n 3, 1) := dk_29 (dk_at dksX0_ifSplit_3 9 rfl rfl)
theorem dX0_ifSplit_79 : decode cX0_ifSplit 79 = .ok (.goto 23, 3) := dk_167 0 23 (dk_at dksX0_ifSplit_3 10 rfl rfl)
theorem dX0_ifSplit_82 : decode cX0_ifSplit 82 = .ok (.iload_n 2, 1) := dk_28 (dk_at dksX0_ifSplit_3 13 rfl rfl)
theorem dX0_ifSplit_83 : decode cX0_ifSplit 83 = .ok (.iconst 1, 1) := dk_4 (dk_at dksX0_ifSplit_3 14 rfl rfl)
theorem dX0_ifSplit_84 : decode cX0_ifSplit 84 = .ok (.if_icmp .ne 11, 3) := dk_160 0 11 (dk_at dksX0_ifSplit_3 15 rfl rfl)
theorem dX0_ifSplit_87 : decode cX0_ifSplit 87 = .ok (.aload 5, 2) := dk_25 5 (dk_at dksX0_ifSplit_3 18 rfl rfl)
theorem dX0_ifSplit_89 : decode cX0_ifSplit 89 = .ok (.getfield 106, 3) := dk_180 0 106 (dk_at dksX0_ifSplit_3 20 rfl rfl)
theorem dX0_ifSplit_92 : decode cX0_ifSplit 92 = .ok (.goto 8, 3) := dk_167 0 8 (dk_at dksX0_ifSplit_4 0 rfl rfl)
theorem dX0_ifSplit_95 : decode cX0_ifSplit 95 = .ok (.aload 5, 2) := dk_25 5 (dk_at dksX0_ifSplit_4 3 rfl rfl)
theorem dX0_ifSplit_97 : decode cX0_ifSplit 97 = .ok (.getfield 109, 3) := dk_180 0 109 (dk_at dksX0_ifSplit_4 5 rfl rfl)
theorem dX0_ifSplit_100 : decode cX0_ifSplit 100 = .ok (.iload_n 3, 1) := dk_29 (dk_at dksX0_ifSplit_4 8 rfl rfl)
theorem dX0_ifSplit_101 : decode cX0_ifSplit 101 = .ok (.isub, 1) := dk_100 (dk_at dksX0_ifSplit_4 9 rfl rfl)
theorem dX0_ifSplit_102 : decode cX0_ifSplit 102 = .ok (.istore 7, 2) := dk_54 7 (dk_at dksX0_ifSplit_4 10 rfl rfl)
theorem dX0_ifSplit_104 : decode cX0_ifSplit 104 = .ok (.iload 7, 2) := dk_21 7 (dk_at dksX0_ifSplit_4 12 rfl rfl)
theorem dX0_ifSplit_106 : decode cX0_ifSplit 106 = .ok (.iload_n 2, 1) := dk_28 (dk_at dksX0_ifSplit_4 14 rfl rfl)
theorem dX0_ifSplit_107 : decode cX0_ifSplit 107 = .ok (.iconst 1, 1) := dk_4 (dk_at dksX0_ifSplit_4 15 rfl rfl)
theorem dX0_ifSplit_108 : decode cX0_ifSplit 108 = .ok (.if_icmp .ne 11, 3) := dk_160 0 11 (dk_at dksX0_ifSplit_4 16 rfl rfl)
theorem dX0_ifSplit_111 : decode cX0_ifSplit 111 = .ok (.aload 5, 2) := dk_25 5 (dk_at dksX0_ifSplit_4 19 rfl rfl)
theorem dX0_ifSplit_113 : decode cX0_ifSplit 113 = .ok (.getfield 109, 3) := dk_180 0 109 (dk_at dksX0_ifSplit_4 21 rfl rfl)
theorem dX0_ifSplit_116 : decode cX0_ifSplit 116 = .ok (.goto 8, 3) := dk_167 0 8 (dk_at dksX0_ifSplit_5 0 rfl rfl)
theorem dX0_ifSplit_119 : decode cX0_ifSplit 119 = .ok (.aload 5, 2) := dk_25 5 (dk_at dksX0_ifSplit_5 3 rfl rfl)
theorem dX0_ifSplit_121 : decode cX0_ifSplit 121 = .ok (.getfield 106, 3) := dk_180 0 106 (dk_at dksX0_ifSplit_5 5 rfl rfl)
theorem dX0_ifSplit_124 : decode cX0_ifSplit 124 = .ok (.imul, 1) := dk_104 (dk_at dksX0_ifSplit_5 8 rfl rfl)
theorem dX0_ifSplit_125 : decode cX0_ifSplit 125 = .ok (.istore 8, 2) := dk_54 8 (dk_at dksX0_ifSplit_5 9 rfl rfl)
theorem dX0_ifSplit_127 : decode cX0_ifSplit 127 = .ok (.iconst 0, 1) := dk_3 (dk_at dksX0_ifSplit_5 11 rfl rfl)
theorem dX0_ifSplit_128 : decode cX0_ifSplit 128 = .ok (.sipush 20000, 3) := dk_17 78 32 (dk_at dksX0_ifSplit_5 12 rfl rfl)
theorem dX0_ifSplit_131 : decode cX0_ifSplit 131 = .ok (.iload 8, 2) := dk_21 8 (dk_at dksX0_ifSplit_5 15 rfl rfl)
theorem dX0_ifSplit_133 : decode cX0_ifSplit 133 = .ok (.aload_n 0, 1) := dk_42 (dk_at dksX0_ifSplit_5 17 rfl rfl)
theorem dX0_ifSplit_134 : decode cX0_ifSplit 134 = .ok (.getfield 32, 3) := dk_180 0 32 (dk_at dksX0_ifSplit_5 18 rfl rfl)
theorem dX0_ifSplit_137 : decode cX0_ifSplit 137 = .ok (.getfield 325, 3) := dk_180 1 69 (dk_at dksX0_ifSplit_5 21 rfl rfl)
theorem dX0_ifSplit_140 : decode cX0_ifSplit 140 = .ok (.imul, 1) := dk_104 (dk_at dksX0_ifSplit_6 0 rfl rfl)
theorem dX0_ifSplit_141 : decode cX0_ifSplit 141 = .ok (.iadd, 1) := dk_96 (dk_at dksX0_ifSplit_6 1 rfl rfl)
theorem dX0_ifSplit_142 : decode cX0_ifSplit 142 = .ok (.aload_n 0, 1) := dk_42 (dk_at dksX0_ifSplit_6 2 rfl rfl)
theorem dX0_ifSplit_143 : decode cX0_ifSplit 143 = .ok (.getfield 32, 3) := dk_180 0 32 (dk_at dksX0_ifSplit_6 3 rfl rfl)
theorem dX0_ifSplit_146 : decode cX0_ifSplit 146 = .ok (.iload_n 1, 1) := dk_27 (dk_at dksX0_ifSplit_6 6 rfl rfl)
theorem dX0_ifSplit_147 : decode cX0_ifSplit 147 = .ok (.invokevirtual 392, 3) := dk_182 1 136 (dk_at dksX0_ifSplit_6 7 rfl rfl)
theorem dX0_ifSplit_150 : decode cX0_ifSplit 150 = .ok (.isub, 1) := dk_100 (dk_at dksX0_ifSplit_6 10 rfl rfl)
theorem dX0_ifSplit_151 : decode cX0_ifSplit 151 = .ok (.invokestatic 471, 3) := dk_184 1 215 (dk_at dksX0_ifSplit_6 11 rfl rfl)
theorem dX0_ifSplit_154 : decode cX0_ifSplit 154 = .ok (.ireturn, 1) := dk_172 (dk_at dksX0_ifSplit_6 14 rfl rfl)
abbrev cX0_burdensOfPiece : ByteArray := prog_1_method_70_code
def yX0_burdensOfPiece : MethodName := ⟨RX0, "burdensOfPiece", "(IIIZ)I"⟩
def dkwX0_burdensOfPiece_3 : List UInt8 := [29, 21, 4, 184, 1, 207, 153, 0, 7, 4, 167, 0, 4, 3, 96, 54, 5, 167, 255, 189, 21, 5, 172]
abbrev dktX0_burdensOfPiece_3 : List UInt8 := dkwX0_burdensOfPiece_3 ++ []
def dkwX0_burdensOfPiece_2 : List UInt8 := [193, 1, 18, 153, 0, 30, 25, 7, 192, 1, 18, 58, 8, 42, 180, 0, 32, 27, 182, 0, 116, 25, 8, 28]
abbrev dktX0_burdensOfPiece_2 : List UInt8 := dkwX0_burdensOfPiece_2 ++ dktX0_burdensOfPiece_3
def dkwX0_burdensOfPiece_1 : List UInt8 := [185, 1, 110, 1, 0, 153, 0, 63, 25, 6, 185, 1, 115, 1, 0, 192, 1, 35, 58, 7, 21, 5, 25, 7]
abbrev dktX0_burdensOfPiece_1 : List UInt8 := dkwX0_burdensOfPiece_1 ++ dktX0_burdensOfPiece_2
def dkwX0_burdensOfPiece_0 : List UInt8 := [3, 54, 5, 187, 1, 101, 89, 42, 180, 0, 32, 27, 183, 1, 103, 182, 1, 106, 58, 6, 25, 6]
abbrev dktX0_burdensOfPiece_0 : List UInt8 := dkwX0_burdensOfPiece_0 ++ dktX0_burdensOfPiece_1
theorem dksX0_burdensOfPiece_0 : cX0_burdensOfPiece.data.toList.drop 0 = dktX0_burdensOfPiece_0 := by decide +kernel
theorem dksX0_burdensOfPiece_1 : cX0_burdensOfPiece.data.toList.drop 22 = dktX0_burdensOfPiece_1 := dk_seg dksX0_burdensOfPiece_0 22 rfl rfl
theorem dksX0_burdensOfPiece_2 : cX0_burdensOfPiece.data.toList.drop 46 = dktX0_burdensOfPiece_2 := dk_seg dksX0_burdensOfPiece_1 24 rfl rfl
theorem dksX0_burdensOfPiece_3 : cX0_burdensOfPiece.data.toList.drop 70 = dktX0_burdensOfPiece_3 := dk_seg dksX0_burdensOfPiece_2 24 rfl rfl
theorem dX0_burdensOfPiece_0 : decode cX0_burdensOfPiece 0 = .ok (.iconst 0, 1) := dk_3 (dk_at dksX0_burdensOfPiece_0 0 rfl rfl)
theorem dX0_burdensOfPiece_1 : decode cX0_burdensOfPiece 1 = .ok (.istore 5, 2) := dk_54 5 (dk_at dksX0_burdensOfPiece_0 1 rfl rfl)
theorem dX0_burdensOfPiece_3 : decode cX0_burdensOfPiece 3 = .ok (.new 357, 3) := dk_187 1 101 (dk_at dksX0_burdensOfPiece_0 3 rfl rfl)
theorem dX0_burdensOfPiece_6 : decode cX0_burdensOfPiece 6 = .ok (.dup, 1) := dk_89 (dk_at dksX0_burdensOfPiece_0 6 rfl rfl)
theorem dX0_burdensOfPiece_7 : decode cX0_burdensOfPiece 7 = .ok (.aload_n 0, 1) := dk_42 (dk_at dksX0_burdensOfPiece_0 7 rfl rfl)
theorem dX0_burdensOfPiece_8 : decode cX0_burdensOfPiece 8 = .ok (.getfield 32, 3) := dk_180 0 32 (dk_at dksX0_burdensOfPiece_0 8 rfl rfl)
theorem dX0_burdensOfPiece_11 : decode cX0_burdensOfPiece 11 = .ok (.iload_n 1, 1) := dk_27 (dk_at dksX0_burdensOfPiece_0 11 rfl rfl)
theorem dX0_burdensOfPiece_12 : decode cX0_burdensOfPiece 12 = .ok (.invokespecial 359, 3) := dk_183 1 103 (dk_at dksX0_burdensOfPiece_0 12 rfl rfl)
theorem dX0_burdensOfPiece_15 : decode cX0_burdensOfPiece 15 = .ok (.invokevirtual 362, 3) := dk_182 1 106 (dk_at dksX0_burdensOfPiece_0 15 rfl rfl)
theorem dX0_burdensOfPiece_18 : decode cX0_burdensOfPiece 18 = .ok (.astore 6, 2) := dk_58 6 (dk_at dksX0_burdensOfPiece_0 18 rfl rfl)
theorem dX0_burdensOfPiece_20 : decode cX0_burdensOfPiece 20 = .ok (.aload 6, 2) := dk_25 6 (dk_at dksX0_burdensOfPiece_0 20 rfl rfl)
theorem dX0_burdensOfPiece_22 : decode cX0_burdensOfPiece 22 = .ok (.invokeinterface 366 1, 5) := by decide +kernel
theorem dX0_burdensOfPiece_27 : decode cX0_burdensOfPiece 27 = .ok (.ifCond .eq 63, 3) := dk_153 0 63 (dk_at dksX0_burdensOfPiece_1 5 rfl rfl)
theorem dX0_burdensOfPiece_30 : decode cX0_burdensOfPiece 30 = .ok (.aload 6, 2) := dk_25 6 (dk_at dksX0_burdensOfPiece_1 8 rfl rfl)
theorem dX0_burdensOfPiece_32 : decode cX0_burdensOfPiece 32 = .ok (.invokeinterface 371 1, 5) := by decide +kernel
theorem dX0_burdensOfPiece_37 : decode cX0_burdensOfPiece 37 = .ok (.checkcast 291, 3) := dk_192 1 35 (dk_at dksX0_burdensOfPiece_1 15 rfl rfl)
theorem dX0_burdensOfPiece_40 : decode cX0_burdensOfPiece 40 = .ok (.astore 7, 2) := dk_58 7 (dk_at dksX0_burdensOfPiece_1 18 rfl rfl)
theorem dX0_burdensOfPiece_42 : decode cX0_burdensOfPiece 42 = .ok (.iload 5, 2) := dk_21 5 (dk_at dksX0_burdensOfPiece_1 20 rfl rfl)
theorem dX0_burdensOfPiece_44 : decode cX0_burdensOfPiece 44 = .ok (.aload 7, 2) := dk_25 7 (dk_at dksX0_burdensOfPiece_1 22 rfl rfl)
theorem dX0_burdensOfPiece_46 : decode cX0_burdensOfPiece 46 = .ok (.instanceof 274, 3) := dk_193 1 18 (dk_at dksX0_burdensOfPiece_2 0 rfl rfl)
theorem dX0_burdensOfPiece_49 : decode cX0_burdensOfPiece 49 = .ok (.ifCond .eq 30, 3) := dk_153 0 30 (dk_at dksX0_burdensOfPiece_2 3 rfl rfl)
theorem dX0_burdensOfPiece_52 : decode cX0_burdensOfPiece 52 = .ok (.aload 7, 2) := dk_25 7 (dk_at dksX0_burdensOfPiece_2 6 rfl rfl)
theorem dX0_burdensOfPiece_54 : decode cX0_burdensOfPiece 54 = .ok (.checkcast 274, 3) := dk_192 1 18 (dk_at dksX0_burdensOfPiece_2 8 rfl rfl)
theorem dX0_burdensOfPiece_57 : decode cX0_burdensOfPiece 57 = .ok (.astore 8, 2) := dk_58 8 (dk_at dksX0_burdensOfPiece_2 11 rfl rfl)
theorem dX0_burdensOfPiece_59 : decode cX0_burdensOfPiece 59 = .ok (.aload_n 0, 1) := dk_42 (dk_at dksX0_burdensOfPiece_2 13 rfl rfl)
theorem dX0_burdensOfPiece_60 : decode cX0_burdensOfPiece 60 = .ok (.getfield 32, 3) := dk_180 0 32 (dk_at dksX0_burdensOfPiece_2 14 rfl rfl)
theorem dX0_burdensOfPiece_63 : decode cX0_burdensOfPiece 63 = .ok (.iload_n 1, 1) := dk_27 (dk_at dksX0_burdensOfPiece_2 17 rfl rfl)
theorem dX0_burdensOfPiece_64 : decode cX0_burdensOfPiece 64 = .ok (.invokevirtual 116, 3) := dk_182 0 116 (dk_at dksX0_burdensOfPiece_2 18 rfl rfl)
theorem dX0_burdensOfPiece_67 : decode cX0_burdensOfPiece 67 = .ok (.aload 8, 2) := dk_25 8 (dk_at dksX0_burdensOfPiece_2 21 rfl rfl)
theorem dX0_burdensOfPiece_69 : decode cX0_burdensOfPiece 69 = .ok (.iload_n 2, 1) := dk_28 (dk_at dksX0_burdensOfPiece_2 23 rfl rfl)
theorem dX0_burdensOfPiece_70 : decode cX0_burdensOfPiece 70 = .ok (.iload_n 3, 1) := dk_29 (dk_at dksX0_burdensOfPiece_3 0 rfl rfl)
theorem dX0_burdensOfPiece_71 : decode cX0_burdensOfPiece 71 = .ok (.iload 4, 2) := dk_21 4 (dk_at dksX0_burdensOfPiece_3 1 rfl rfl)
theorem dX0_burdensOfPiece_73 : decode cX0_burdensOfPiece 73 = .ok (.invokestatic 463, 3) := dk_184 1 207 (dk_at dksX0_burdensOfPiece_3 3 rfl rfl)
theorem dX0_burdensOfPiece_76 : decode cX0_burdensOfPiece 76 = .ok (.ifCond .eq 7, 3) := dk_153 0 7 (dk_at dksX0_burdensOfPiece_3 6 rfl rfl)
theorem dX0_burdensOfPiece_79 : decode cX0_burdensOfPiece 79 = .ok (.iconst 1, 1) := dk_4 (dk_at dksX0_burdensOfPiece_3 9 rfl rfl)
theorem dX0_burdensOfPiece_80 : decode cX0_burdensOfPiece 80 = .ok (.goto 4, 3) := dk_167 0 4 (dk_at dksX0_burdensOfPiece_3 10 rfl rfl)
theorem dX0_burdensOfPiece_83 : decode cX0_burdensOfPiece 83 = .ok (.iconst 0, 1) := dk_3 (dk_at dksX0_burdensOfPiece_3 13 rfl rfl)
theorem dX0_burdensOfPiece_84 : decode cX0_burdensOfPiece 84 = .ok (.iadd, 1) := dk_96 (dk_at dksX0_burdensOfPiece_3 14 rfl rfl)
theorem dX0_burdensOfPiece_85 : decode cX0_burdensOfPiece 85 = .ok (.istore 5, 2) := dk_54 5 (dk_at dksX0_burdensOfPiece_3 15 rfl rfl)
theorem dX0_burdensOfPiece_87 : decode cX0_burdensOfPiece 87 = .ok (.goto (-67), 3) := dk_167 255 189 (dk_at dksX0_burdensOfPiece_3 17 rfl rfl)
theorem dX0_burdensOfPiece_90 : decode cX0_burdensOfPiece 90 = .ok (.iload 5, 2) := dk_21 5 (dk_at dksX0_burdensOfPiece_3 20 rfl rfl)
theorem dX0_burdensOfPiece_92 : decode cX0_burdensOfPiece 92 = .ok (.ireturn, 1) := dk_172 (dk_at dksX0_burdensOfPiece_3 22 rfl rfl)
abbrev cX0_isOnPiece : ByteArray := prog_1_method_69_code
def yX0_isOnPiece : MethodName := ⟨RX0, "isOnPiece", "(LLandFolio$Parcel;LLandFolio$Path;IIZ)Z"⟩
def dkwX0_isOnPiece_2 : List UInt8 := [167, 0, 4, 3, 172]
abbrev dktX0_isOnPiece_2 : List UInt8 := dkwX0_isOnPiece_2 ++ []
def dkwX0_isOnPiece_1 : List UInt8 := [180, 1, 118, 100, 54, 5, 21, 5, 29, 162, 0, 7, 4, 167, 0, 4, 3, 21, 4, 160, 0, 7, 4]
abbrev dktX0_isOnPiece_1 : List UInt8 := dkwX0_isOnPiece_1 ++ dktX0_isOnPiece_2
def dkwX0_isOnPiece_0 : List UInt8 := [28, 4, 160, 0, 15, 43, 180, 1, 182, 42, 180, 1, 121, 100, 167, 0, 12, 43, 180, 1, 181, 42]
abbrev dktX0_isOnPiece_0 : List UInt8 := dkwX0_isOnPiece_0 ++ dktX0_isOnPiece_1
theorem dksX0_isOnPiece_0 : cX0_isOnPiece.data.toList.drop 0 = dktX0_isOnPiece_0 := by decide +kernel
theorem dksX0_isOnPiece_1 : cX0_isOnPiece.data.toList.drop 22 = dktX0_isOnPiece_1 := dk_seg dksX0_isOnPiece_0 22 rfl rfl
theorem dksX0_isOnPiece_2 : cX0_isOnPiece.data.toList.drop 45 = dktX0_isOnPiece_2 := dk_seg dksX0_isOnPiece_1 23 rfl rfl
theorem dX0_isOnPiece_0 : decode cX0_isOnPiece 0 = .ok (.iload_n 2, 1) := dk_28 (dk_at dksX0_isOnPiece_0 0 rfl rfl)
theorem dX0_isOnPiece_1 : decode cX0_isOnPiece 1 = .ok (.iconst 1, 1) := dk_4 (dk_at dksX0_isOnPiece_0 1 rfl rfl)
theorem dX0_isOnPiece_2 : decode cX0_isOnPiece 2 = .ok (.if_icmp .ne 15, 3) := dk_160 0 15 (dk_at dksX0_isOnPiece_0 2 rfl rfl)
theorem dX0_isOnPiece_5 : decode cX0_isOnPiece 5 = .ok (.aload_n 1, 1) := dk_43 (dk_at dksX0_isOnPiece_0 5 rfl rfl)
theorem dX0_isOnPiece_6 : decode cX0_isOnPiece 6 = .ok (.getfield 438, 3) := dk_180 1 182 (dk_at dksX0_isOnPiece_0 6 rfl rfl)
theorem dX0_isOnPiece_9 : decode cX0_isOnPiece 9 = .ok (.aload_n 0, 1) := dk_42 (dk_at dksX0_isOnPiece_0 9 rfl rfl)
theorem dX0_isOnPiece_10 : decode cX0_isOnPiece 10 = .ok (.getfield 377, 3) := dk_180 1 121 (dk_at dksX0_isOnPiece_0 10 rfl rfl)
theorem dX0_isOnPiece_13 : decode cX0_isOnPiece 13 = .ok (.isub, 1) := dk_100 (dk_at dksX0_isOnPiece_0 13 rfl rfl)
theorem dX0_isOnPiece_14 : decode cX0_isOnPiece 14 = .ok (.goto 12, 3) := dk_167 0 12 (dk_at dksX0_isOnPiece_0 14 rfl rfl)
theorem dX0_isOnPiece_17 : decode cX0_isOnPiece 17 = .ok (.aload_n 1, 1) := dk_43 (dk_at dksX0_isOnPiece_0 17 rfl rfl)
theorem dX0_isOnPiece_18 : decode cX0_isOnPiece 18 = .ok (.getfield 437, 3) := dk_180 1 181 (dk_at dksX0_isOnPiece_0 18 rfl rfl)
theorem dX0_isOnPiece_21 : decode cX0_isOnPiece 21 = .ok (.aload_n 0, 1) := dk_42 (dk_at dksX0_isOnPiece_0 21 rfl rfl)
theorem dX0_isOnPiece_22 : decode cX0_isOnPiece 22 = .ok (.getfield 374, 3) := dk_180 1 118 (dk_at dksX0_isOnPiece_1 0 rfl rfl)
theorem dX0_isOnPiece_25 : decode cX0_isOnPiece 25 = .ok (.isub, 1) := dk_100 (dk_at dksX0_isOnPiece_1 3 rfl rfl)
theorem dX0_isOnPiece_26 : decode cX0_isOnPiece 26 = .ok (.istore 5, 2) := dk_54 5 (dk_at dksX0_isOnPiece_1 4 rfl rfl)
theorem dX0_isOnPiece_28 : decode cX0_isOnPiece 28 = .ok (.iload 5, 2) := dk_21 5 (dk_at dksX0_isOnPiece_1 6 rfl rfl)
theorem dX0_isOnPiece_30 : decode cX0_isOnPiece 30 = .ok (.iload_n 3, 1) := dk_29 (dk_at dksX0_isOnPiece_1 8 rfl rfl)
theorem dX0_isOnPiece_31 : decode cX0_isOnPiece 31 = .ok (.if_icmp .ge 7, 3) := dk_162 0 7 (dk_at dksX0_isOnPiece_1 9 rfl rfl)
theorem dX0_isOnPiece_34 : decode cX0_isOnPiece 34 = .ok (.iconst 1, 1) := dk_4 (dk_at dksX0_isOnPiece_1 12 rfl rfl)
theorem dX0_isOnPiece_35 : decode cX0_isOnPiece 35 = .ok (.goto 4, 3) := dk_167 0 4 (dk_at dksX0_isOnPiece_1 13 rfl rfl)
theorem dX0_isOnPiece_38 : decode cX0_isOnPiece 38 = .ok (.iconst 0, 1) := dk_3 (dk_at dksX0_isOnPiece_1 16 rfl rfl)
theorem dX0_isOnPiece_39 : decode cX0_isOnPiece 39 = .ok (.iload 4, 2) := dk_21 4 (dk_at dksX0_isOnPiece_1 17 rfl rfl)
theorem dX0_isOnPiece_41 : decode cX0_isOnPiece 41 = .ok (.if_icmp .ne 7, 3) := dk_160 0 7 (dk_at dksX0_isOnPiece_1 19 rfl rfl)
theorem dX0_isOnPiece_44 : decode cX0_isOnPiece 44 = .ok (.iconst 1, 1) := dk_4 (dk_at dksX0_isOnPiece_1 22 rfl rfl)
theorem dX0_isOnPiece_45 : decode cX0_isOnPiece 45 = .ok (.goto 4, 3) := dk_167 0 4 (dk_at dksX0_isOnPiece_2 0 rfl rfl)
theorem dX0_isOnPiece_48 : decode cX0_isOnPiece 48 = .ok (.iconst 0, 1) := dk_3 (dk_at dksX0_isOnPiece_2 3 rfl rfl)
theorem dX0_isOnPiece_49 : decode cX0_isOnPiece 49 = .ok (.ireturn, 1) := dk_172 (dk_at dksX0_isOnPiece_2 4 rfl rfl)
abbrev cX0_ifFreed : ByteArray := prog_1_method_73_code
def yX0_ifFreed : MethodName := ⟨RX0, "ifFreed", "(II)I"⟩
def dkwX0_ifFreed_2 : List UInt8 := [172]
abbrev dktX0_ifFreed_2 : List UInt8 := dkwX0_ifFreed_2 ++ []
def dkwX0_ifFreed_1 : List UInt8 := [153, 0, 22, 42, 180, 0, 32, 42, 180, 0, 32, 27, 182, 1, 24, 28, 182, 1, 48, 167, 0, 5, 16, 254]
abbrev dktX0_ifFreed_1 : List UInt8 := dkwX0_ifFreed_1 ++ dktX0_ifFreed_2
def dkwX0_ifFreed_0 : List UInt8 := [42, 27, 182, 1, 21, 153, 0, 11, 42, 28, 182, 0, 110, 154, 0, 5, 2, 172, 42, 27, 28, 182, 1, 219]
abbrev dktX0_ifFreed_0 : List UInt8 := dkwX0_ifFreed_0 ++ dktX0_ifFreed_1
theorem dksX0_ifFreed_0 : cX0_ifFreed.data.toList.drop 0 = dktX0_ifFreed_0 := by decide +kernel
theorem dksX0_ifFreed_1 : cX0_ifFreed.data.toList.drop 24 = dktX0_ifFreed_1 := dk_seg dksX0_ifFreed_0 24 rfl rfl
theorem dksX0_ifFreed_2 : cX0_ifFreed.data.toList.drop 48 = dktX0_ifFreed_2 := dk_seg dksX0_ifFreed_1 24 rfl rfl
theorem dX0_ifFreed_0 : decode cX0_ifFreed 0 = .ok (.aload_n 0, 1) := dk_42 (dk_at dksX0_ifFreed_0 0 rfl rfl)
theorem dX0_ifFreed_1 : decode cX0_ifFreed 1 = .ok (.iload_n 1, 1) := dk_27 (dk_at dksX0_ifFreed_0 1 rfl rfl)
theorem dX0_ifFreed_2 : decode cX0_ifFreed 2 = .ok (.invokevirtual 277, 3) := dk_182 1 21 (dk_at dksX0_ifFreed_0 2 rfl rfl)
theorem dX0_ifFreed_5 : decode cX0_ifFreed 5 = .ok (.ifCond .eq 11, 3) := dk_153 0 11 (dk_at dksX0_ifFreed_0 5 rfl rfl)
theorem dX0_ifFreed_8 : decode cX0_ifFreed 8 = .ok (.aload_n 0, 1) := dk_42 (dk_at dksX0_ifFreed_0 8 rfl rfl)
theorem dX0_ifFreed_9 : decode cX0_ifFreed 9 = .ok (.iload_n 2, 1) := dk_28 (dk_at dksX0_ifFreed_0 9 rfl rfl)
theorem dX0_ifFreed_10 : decode cX0_ifFreed 10 = .ok (.invokevirtual 110, 3) := dk_182 0 110 (dk_at dksX0_ifFreed_0 10 rfl rfl)
theorem dX0_ifFreed_13 : decode cX0_ifFreed 13 = .ok (.ifCond .ne 5, 3) := dk_154 0 5 (dk_at dksX0_ifFreed_0 13 rfl rfl)
theorem dX0_ifFreed_16 : decode cX0_ifFreed 16 = .ok (.iconst (-1), 1) := dk_2 (dk_at dksX0_ifFreed_0 16 rfl rfl)
theorem dX0_ifFreed_17 : decode cX0_ifFreed 17 = .ok (.ireturn, 1) := dk_172 (dk_at dksX0_ifFreed_0 17 rfl rfl)
theorem dX0_ifFreed_18 : decode cX0_ifFreed 18 = .ok (.aload_n 0, 1) := dk_42 (dk_at dksX0_ifFreed_0 18 rfl rfl)
theorem dX0_ifFreed_19 : decode cX0_ifFreed 19 = .ok (.iload_n 1, 1) := dk_27 (dk_at dksX0_ifFreed_0 19 rfl rfl)
theorem dX0_ifFreed_20 : decode cX0_ifFreed 20 = .ok (.iload_n 2, 1) := dk_28 (dk_at dksX0_ifFreed_0 20 rfl rfl)
theorem dX0_ifFreed_21 : decode cX0_ifFreed 21 = .ok (.invokevirtual 475, 3) := dk_182 1 219 (dk_at dksX0_ifFreed_0 21 rfl rfl)
theorem dX0_ifFreed_24 : decode cX0_ifFreed 24 = .ok (.ifCond .eq 22, 3) := dk_153 0 22 (dk_at dksX0_ifFreed_1 0 rfl rfl)
theorem dX0_ifFreed_27 : decode cX0_ifFreed 27 = .ok (.aload_n 0, 1) := dk_42 (dk_at dksX0_ifFreed_1 3 rfl rfl)
theorem dX0_ifFreed_28 : decode cX0_ifFreed 28 = .ok (.getfield 32, 3) := dk_180 0 32 (dk_at dksX0_ifFreed_1 4 rfl rfl)
theorem dX0_ifFreed_31 : decode cX0_ifFreed 31 = .ok (.aload_n 0, 1) := dk_42 (dk_at dksX0_ifFreed_1 7 rfl rfl)
theorem dX0_ifFreed_32 : decode cX0_ifFreed 32 = .ok (.getfield 32, 3) := dk_180 0 32 (dk_at dksX0_ifFreed_1 8 rfl rfl)
theorem dX0_ifFreed_35 : decode cX0_ifFreed 35 = .ok (.iload_n 1, 1) := dk_27 (dk_at dksX0_ifFreed_1 11 rfl rfl)
theorem dX0_ifFreed_36 : decode cX0_ifFreed 36 = .ok (.invokevirtual 280, 3) := dk_182 1 24 (dk_at dksX0_ifFreed_1 12 rfl rfl)
theorem dX0_ifFreed_39 : decode cX0_ifFreed 39 = .ok (.iload_n 2, 1) := dk_28 (dk_at dksX0_ifFreed_1 15 rfl rfl)
theorem dX0_ifFreed_40 : decode cX0_ifFreed 40 = .ok (.invokevirtual 304, 3) := dk_182 1 48 (dk_at dksX0_ifFreed_1 16 rfl rfl)
theorem dX0_ifFreed_43 : decode cX0_ifFreed 43 = .ok (.goto 5, 3) := dk_167 0 5 (dk_at dksX0_ifFreed_1 19 rfl rfl)
theorem dX0_ifFreed_46 : decode cX0_ifFreed 46 = .ok (.bipush (-2), 2) := dk_16 254 (dk_at dksX0_ifFreed_1 22 rfl rfl)
theorem dX0_ifFreed_48 : decode cX0_ifFreed 48 = .ok (.ireturn, 1) := dk_172 (dk_at dksX0_ifFreed_2 0 rfl rfl)
abbrev cX0_isDebtOn : ByteArray := prog_1_method_72_code
def yX0_isDebtOn : MethodName := ⟨RX0, "isDebtOn", "(II)Z"⟩
def dkwX0_isDebtOn_1 : List UInt8 := [45, 28, 182, 1, 218, 153, 0, 7, 4, 167, 0, 4, 3, 172]
abbrev dktX0_isDebtOn_1 : List UInt8 := dkwX0_isDebtOn_1 ++ []
def dkwX0_isDebtOn_0 : List UInt8 := [42, 180, 0, 32, 27, 182, 1, 24, 58, 4, 25, 4, 193, 0, 254, 153, 0, 21, 25, 4, 192, 0, 254, 78]
abbrev dktX0_isDebtOn_0 : List UInt8 := dkwX0_isDebtOn_0 ++ dktX0_isDebtOn_1
theorem dksX0_isDebtOn_0 : cX0_isDebtOn.data.toList.drop 0 = dktX0_isDebtOn_0 := by decide +kernel
theorem dksX0_isDebtOn_1 : cX0_isDebtOn.data.toList.drop 24 = dktX0_isDebtOn_1 := dk_seg dksX0_isDebtOn_0 24 rfl rfl
theorem dX0_isDebtOn_0 : decode cX0_isDebtOn 0 = .ok (.aload_n 0, 1) := dk_42 (dk_at dksX0_isDebtOn_0 0 rfl rfl)
theorem dX0_isDebtOn_1 : decode cX0_isDebtOn 1 = .ok (.getfield 32, 3) := dk_180 0 32 (dk_at dksX0_isDebtOn_0 1 rfl rfl)
theorem dX0_isDebtOn_4 : decode cX0_isDebtOn 4 = .ok (.iload_n 1, 1) := dk_27 (dk_at dksX0_isDebtOn_0 4 rfl rfl)
theorem dX0_isDebtOn_5 : decode cX0_isDebtOn 5 = .ok (.invokevirtual 280, 3) := dk_182 1 24 (dk_at dksX0_isDebtOn_0 5 rfl rfl)
theorem dX0_isDebtOn_8 : decode cX0_isDebtOn 8 = .ok (.astore 4, 2) := dk_58 4 (dk_at dksX0_isDebtOn_0 8 rfl rfl)
theorem dX0_isDebtOn_10 : decode cX0_isDebtOn 10 = .ok (.aload 4, 2) := dk_25 4 (dk_at dksX0_isDebtOn_0 10 rfl rfl)
theorem dX0_isDebtOn_12 : decode cX0_isDebtOn 12 = .ok (.instanceof 254, 3) := dk_193 0 254 (dk_at dksX0_isDebtOn_0 12 rfl rfl)
theorem dX0_isDebtOn_15 : decode cX0_isDebtOn 15 = .ok (.ifCond .eq 21, 3) := dk_153 0 21 (dk_at dksX0_isDebtOn_0 15 rfl rfl)
theorem dX0_isDebtOn_18 : decode cX0_isDebtOn 18 = .ok (.aload 4, 2) := dk_25 4 (dk_at dksX0_isDebtOn_0 18 rfl rfl)
theorem dX0_isDebtOn_20 : decode cX0_isDebtOn 20 = .ok (.checkcast 254, 3) := dk_192 0 254 (dk_at dksX0_isDebtOn_0 20 rfl rfl)
theorem dX0_isDebtOn_23 : decode cX0_isDebtOn 23 = .ok (.astore_n 3, 1) := dk_78 (dk_at dksX0_isDebtOn_0 23 rfl rfl)
theorem dX0_isDebtOn_24 : decode cX0_isDebtOn 24 = .ok (.aload_n 3, 1) := dk_45 (dk_at dksX0_isDebtOn_1 0 rfl rfl)
theorem dX0_isDebtOn_25 : decode cX0_isDebtOn 25 = .ok (.iload_n 2, 1) := dk_28 (dk_at dksX0_isDebtOn_1 1 rfl rfl)
theorem dX0_isDebtOn_26 : decode cX0_isDebtOn 26 = .ok (.invokevirtual 474, 3) := dk_182 1 218 (dk_at dksX0_isDebtOn_1 2 rfl rfl)
theorem dX0_isDebtOn_29 : decode cX0_isDebtOn 29 = .ok (.ifCond .eq 7, 3) := dk_153 0 7 (dk_at dksX0_isDebtOn_1 5 rfl rfl)
theorem dX0_isDebtOn_32 : decode cX0_isDebtOn 32 = .ok (.iconst 1, 1) := dk_4 (dk_at dksX0_isDebtOn_1 8 rfl rfl)
theorem dX0_isDebtOn_33 : decode cX0_isDebtOn 33 = .ok (.goto 4, 3) := dk_167 0 4 (dk_at dksX0_isDebtOn_1 9 rfl rfl)
theorem dX0_isDebtOn_36 : decode cX0_isDebtOn 36 = .ok (.iconst 0, 1) := dk_3 (dk_at dksX0_isDebtOn_1 12 rfl rfl)
theorem dX0_isDebtOn_37 : decode cX0_isDebtOn 37 = .ok (.ireturn, 1) := dk_172 (dk_at dksX0_isDebtOn_1 13 rfl rfl)
abbrev cX0_ifSold : ByteArray := prog_1_method_74_code
def yX0_ifSold : MethodName := ⟨RX0, "ifSold", "(III)I"⟩
def dkwX0_ifSold_5 : List UInt8 := [167, 255, 188, 16, 254, 172]
abbrev dktX0_ifSold_5 : List UInt8 := dkwX0_ifSold_5 ++ []
def dkwX0_ifSold_4 : List UInt8 := [184, 0, 233, 54, 8, 25, 7, 182, 1, 223, 29, 160, 0, 6, 21, 8, 172, 21, 4, 21, 8, 100, 54, 4]
abbrev dktX0_ifSold_4 : List UInt8 := dkwX0_ifSold_4 ++ dktX0_ifSold_5
def dkwX0_ifSold_3 : List UInt8 := [25, 6, 193, 0, 254, 153, 0, 41, 25, 6, 192, 0, 254, 58, 7, 21, 4, 25, 7, 180, 1, 31]
abbrev dktX0_ifSold_3 : List UInt8 := dkwX0_ifSold_3 ++ dktX0_ifSold_4
def dkwX0_ifSold_2 : List UInt8 := [58, 5, 25, 5, 185, 1, 110, 1, 0, 153, 0, 64, 25, 5, 185, 1, 115, 1, 0, 192, 1, 35, 58, 6]
abbrev dktX0_ifSold_2 : List UInt8 := dkwX0_ifSold_2 ++ dktX0_ifSold_3
def dkwX0_ifSold_1 : List UInt8 := [154, 0, 5, 2, 172, 28, 54, 4, 187, 1, 101, 89, 42, 180, 0, 32, 27, 183, 1, 103, 182, 1, 106]
abbrev dktX0_ifSold_1 : List UInt8 := dkwX0_ifSold_1 ++ dktX0_ifSold_2
def dkwX0_ifSold_0 : List UInt8 := [42, 27, 182, 0, 110, 153, 0, 22, 28, 3, 19, 1, 222, 184, 0, 78, 153, 0, 11, 42, 29, 182, 1, 21]
abbrev dktX0_ifSold_0 : List UInt8 := dkwX0_ifSold_0 ++ dktX0_ifSold_1
theorem dksX0_ifSold_0 : cX0_ifSold.data.toList.drop 0 = dktX0_ifSold_0 := by decide +kernel
theorem dksX0_ifSold_1 : cX0_ifSold.data.toList.drop 24 = dktX0_ifSold_1 := dk_seg dksX0_ifSold_0 24 rfl rfl
theorem dksX0_ifSold_2 : cX0_ifSold.data.toList.drop 47 = dktX0_ifSold_2 := dk_seg dksX0_ifSold_1 23 rfl rfl
theorem dksX0_ifSold_3 : cX0_ifSold.data.toList.drop 71 = dktX0_ifSold_3 := dk_seg dksX0_ifSold_2 24 rfl rfl
theorem dksX0_ifSold_4 : cX0_ifSold.data.toList.drop 93 = dktX0_ifSold_4 := dk_seg dksX0_ifSold_3 22 rfl rfl
theorem dksX0_ifSold_5 : cX0_ifSold.data.toList.drop 117 = dktX0_ifSold_5 := dk_seg dksX0_ifSold_4 24 rfl rfl
theorem dX0_ifSold_0 : decode cX0_ifSold 0 = .ok (.aload_n 0, 1) := dk_42 (dk_at dksX0_ifSold_0 0 rfl rfl)
theorem dX0_ifSold_1 : decode cX0_ifSold 1 = .ok (.iload_n 1, 1) := dk_27 (dk_at dksX0_ifSold_0 1 rfl rfl)
theorem dX0_ifSold_2 : decode cX0_ifSold 2 = .ok (.invokevirtual 110, 3) := dk_182 0 110 (dk_at dksX0_ifSold_0 2 rfl rfl)
theorem dX0_ifSold_5 : decode cX0_ifSold 5 = .ok (.ifCond .eq 22, 3) := dk_153 0 22 (dk_at dksX0_ifSold_0 5 rfl rfl)
theorem dX0_ifSold_8 : decode cX0_ifSold 8 = .ok (.iload_n 2, 1) := dk_28 (dk_at dksX0_ifSold_0 8 rfl rfl)
theorem dX0_ifSold_9 : decode cX0_ifSold 9 = .ok (.iconst 0, 1) := dk_3 (dk_at dksX0_ifSold_0 9 rfl rfl)
theorem dX0_ifSold_10 : decode cX0_ifSold 10 = .ok (.ldc_w 478, 3) := dk_19 1 222 (dk_at dksX0_ifSold_0 10 rfl rfl)
theorem dX0_ifSold_13 : decode cX0_ifSold 13 = .ok (.invokestatic 78, 3) := dk_184 0 78 (dk_at dksX0_ifSold_0 13 rfl rfl)
theorem dX0_ifSold_16 : decode cX0_ifSold 16 = .ok (.ifCond .eq 11, 3) := dk_153 0 11 (dk_at dksX0_ifSold_0 16 rfl rfl)
theorem dX0_ifSold_19 : decode cX0_ifSold 19 = .ok (.aload_n 0, 1) := dk_42 (dk_at dksX0_ifSold_0 19 rfl rfl)
theorem dX0_ifSold_20 : decode cX0_ifSold 20 = .ok (.iload_n 3, 1) := dk_29 (dk_at dksX0_ifSold_0 20 rfl rfl)
theorem dX0_ifSold_21 : decode cX0_ifSold 21 = .ok (.invokevirtual 277, 3) := dk_182 1 21 (dk_at dksX0_ifSold_0 21 rfl rfl)
theorem dX0_ifSold_24 : decode cX0_ifSold 24 = .ok (.ifCond .ne 5, 3) := dk_154 0 5 (dk_at dksX0_ifSold_1 0 rfl rfl)
theorem dX0_ifSold_27 : decode cX0_ifSold 27 = .ok (.iconst (-1), 1) := dk_2 (dk_at dksX0_ifSold_1 3 rfl rfl)
theorem dX0_ifSold_28 : decode cX0_ifSold 28 = .ok (.ireturn, 1) := dk_172 (dk_at dksX0_ifSold_1 4 rfl rfl)
theorem dX0_ifSold_29 : decode cX0_ifSold 29 = .ok (.iload_n 2, 1) := dk_28 (dk_at dksX0_ifSold_1 5 rfl rfl)
theorem dX0_ifSold_30 : decode cX0_ifSold 30 = .ok (.istore 4, 2) := dk_54 4 (dk_at dksX0_ifSold_1 6 rfl rfl)
theorem dX0_ifSold_32 : decode cX0_ifSold 32 = .ok (.new 357, 3) := dk_187 1 101 (dk_at dksX0_ifSold_1 8 rfl rfl)
theorem dX0_ifSold_35 : decode cX0_ifSold 35 = .ok (.dup, 1) := dk_89 (dk_at dksX0_ifSold_1 11 rfl rfl)
theorem dX0_ifSold_36 : decode cX0_ifSold 36 = .ok (.aload_n 0, 1) := dk_42 (dk_at dksX0_ifSold_1 12 rfl rfl)
theorem dX0_ifSold_37 : decode cX0_ifSold 37 = .ok (.getfield 32, 3) := dk_180 0 32 (dk_at dksX0_ifSold_1 13 rfl rfl)
theorem dX0_ifSold_40 : decode cX0_ifSold 40 = .ok (.iload_n 1, 1) := dk_27 (dk_at dksX0_ifSold_1 16 rfl rfl)
theorem dX0_ifSold_41 : decode cX0_ifSold 41 = .ok (.invokespecial 359, 3) := dk_183 1 103 (dk_at dksX0_ifSold_1 17 rfl rfl)
theorem dX0_ifSold_44 : decode cX0_ifSold 44 = .ok (.invokevirtual 362, 3) := dk_182 1 106 (dk_at dksX0_ifSold_1 20 rfl rfl)
theorem dX0_ifSold_47 : decode cX0_ifSold 47 = .ok (.astore 5, 2) := dk_58 5 (dk_at dksX0_ifSold_2 0 rfl rfl)
theorem dX0_ifSold_49 : decode cX0_ifSold 49 = .ok (.aload 5, 2) := dk_25 5 (dk_at dksX0_ifSold_2 2 rfl rfl)
theorem dX0_ifSold_51 : decode cX0_ifSold 51 = .ok (.invokeinterface 366 1, 5) := by decide +kernel
theorem dX0_ifSold_56 : decode cX0_ifSold 56 = .ok (.ifCond .eq 64, 3) := dk_153 0 64 (dk_at dksX0_ifSold_2 9 rfl rfl)
theorem dX0_ifSold_59 : decode cX0_ifSold 59 = .ok (.aload 5, 2) := dk_25 5 (dk_at dksX0_ifSold_2 12 rfl rfl)
theorem dX0_ifSold_61 : decode cX0_ifSold 61 = .ok (.invokeinterface 371 1, 5) := by decide +kernel
theorem dX0_ifSold_66 : decode cX0_ifSold 66 = .ok (.checkcast 291, 3) := dk_192 1 35 (dk_at dksX0_ifSold_2 19 rfl rfl)
theorem dX0_ifSold_69 : decode cX0_ifSold 69 = .ok (.astore 6, 2) := dk_58 6 (dk_at dksX0_ifSold_2 22 rfl rfl)
theorem dX0_ifSold_71 : decode cX0_ifSold 71 = .ok (.aload 6, 2) := dk_25 6 (dk_at dksX0_ifSold_3 0 rfl rfl)
theorem dX0_ifSold_73 : decode cX0_ifSold 73 = .ok (.instanceof 254, 3) := dk_193 0 254 (dk_at dksX0_ifSold_3 2 rfl rfl)
theorem dX0_ifSold_76 : decode cX0_ifSold 76 = .ok (.ifCond .eq 41, 3) := dk_153 0 41 (dk_at dksX0_ifSold_3 5 rfl rfl)
theorem dX0_ifSold_79 : decode cX0_ifSold 79 = .ok (.aload 6, 2) := dk_25 6 (dk_at dksX0_ifSold_3 8 rfl rfl)
theorem dX0_ifSold_81 : decode cX0_ifSold 81 = .ok (.checkcast 254, 3) := dk_192 0 254 (dk_at dksX0_ifSold_3 10 rfl rfl)
theorem dX0_ifSold_84 : decode cX0_ifSold 84 = .ok (.astore 7, 2) := dk_58 7 (dk_at dksX0_ifSold_3 13 rfl rfl)
theorem dX0_ifSold_86 : decode cX0_ifSold 86 = .ok (.iload 4, 2) := dk_21 4 (dk_at dksX0_ifSold_3 15 rfl rfl)
theorem dX0_ifSold_88 : decode cX0_ifSold 88 = .ok (.aload 7, 2) := dk_25 7 (dk_at dksX0_ifSold_3 17 rfl rfl)
theorem dX0_ifSold_90 : decode cX0_ifSold 90 = .ok (.getfield 287, 3) := dk_180 1 31 (dk_at dksX0_ifSold_3 19 rfl rfl)
theorem dX0_ifSold_93 : decode cX0_ifSold 93 = .ok (.invokestatic 233, 3) := dk_184 0 233 (dk_at dksX0_ifSold_4 0 rfl rfl)
theorem dX0_ifSold_96 : decode cX0_ifSold 96 = .ok (.istore 8, 2) := dk_54 8 (dk_at dksX0_ifSold_4 3 rfl rfl)
theorem dX0_ifSold_98 : decode cX0_ifSold 98 = .ok (.aload 7, 2) := dk_25 7 (dk_at dksX0_ifSold_4 5 rfl rfl)
theorem dX0_ifSold_100 : decode cX0_ifSold 100 = .ok (.invokevirtual 479, 3) := dk_182 1 223 (dk_at dksX0_ifSold_4 7 rfl rfl)
theorem dX0_ifSold_103 : decode cX0_ifSold 103 = .ok (.iload_n 3, 1) := dk_29 (dk_at dksX0_ifSold_4 10 rfl rfl)
theorem dX0_ifSold_104 : decode cX0_ifSold 104 = .ok (.if_icmp .ne 6, 3) := dk_160 0 6 (dk_at dksX0_ifSold_4 11 rfl rfl)
theorem dX0_ifSold_107 : decode cX0_ifSold 107 = .ok (.iload 8, 2) := dk_21 8 (dk_at dksX0_ifSold_4 14 rfl rfl)
theorem dX0_ifSold_109 : decode cX0_ifSold 109 = .ok (.ireturn, 1) := dk_172 (dk_at dksX0_ifSold_4 16 rfl rfl)
theorem dX0_ifSold_110 : decode cX0_ifSold 110 = .ok (.iload 4, 2) := dk_21 4 (dk_at dksX0_ifSold_4 17 rfl rfl)
theorem dX0_ifSold_112 : decode cX0_ifSold 112 = .ok (.iload 8, 2) := dk_21 8 (dk_at dksX0_ifSold_4 19 rfl rfl)
theorem dX0_ifSold_114 : decode cX0_ifSold 114 = .ok (.isub, 1) := dk_100 (dk_at dksX0_ifSold_4 21 rfl rfl)
theorem dX0_ifSold_115 : decode cX0_ifSold 115 = .ok (.istore 4, 2) := dk_54 4 (dk_at dksX0_ifSold_4 22 rfl rfl)
theorem dX0_ifSold_117 : decode cX0_ifSold 117 = .ok (.goto (-68), 3) := dk_167 255 188 (dk_at dksX0_ifSold_5 0 rfl rfl)
theorem dX0_ifSold_120 : decode cX0_ifSold 120 = .ok (.bipush (-2), 2) := dk_16 254 (dk_at dksX0_ifSold_5 3 rfl rfl)
theorem dX0_ifSold_122 : decode cX0_ifSold 122 = .ok (.ireturn, 1) := dk_172 (dk_at dksX0_ifSold_5 5 rfl rfl)
abbrev cX0_leastPrice : ByteArray := prog_1_method_75_code
def yX0_leastPrice : MethodName := ⟨RX0, "leastPrice", "()I"⟩
def dkwX0_leastPrice_2 : List UInt8 := [167, 0, 4, 3, 62, 42, 180, 0, 32, 27, 181, 1, 69, 29, 153, 0, 7, 28, 167, 0, 5, 16, 254, 172]
abbrev dktX0_leastPrice_2 : List UInt8 := dkwX0_leastPrice_2 ++ []
def dkwX0_leastPrice_1 : List UInt8 := [162, 0, 13, 42, 180, 0, 32, 182, 1, 92, 157, 255, 232, 42, 180, 0, 32, 182, 1, 92, 154, 0, 7, 4]
abbrev dktX0_leastPrice_1 : List UInt8 := dkwX0_leastPrice_1 ++ dktX0_leastPrice_2
def dkwX0_leastPrice_0 : List UInt8 := [42, 180, 0, 32, 180, 1, 69, 60, 3, 61, 132, 2, 1, 42, 180, 0, 32, 28, 181, 1, 69, 28, 16, 99]
abbrev dktX0_leastPrice_0 : List UInt8 := dkwX0_leastPrice_0 ++ dktX0_leastPrice_1
theorem dksX0_leastPrice_0 : cX0_leastPrice.data.toList.drop 0 = dktX0_leastPrice_0 := by decide +kernel
theorem dksX0_leastPrice_1 : cX0_leastPrice.data.toList.drop 24 = dktX0_leastPrice_1 := dk_seg dksX0_leastPrice_0 24 rfl rfl
theorem dksX0_leastPrice_2 : cX0_leastPrice.data.toList.drop 48 = dktX0_leastPrice_2 := dk_seg dksX0_leastPrice_1 24 rfl rfl
theorem dX0_leastPrice_0 : decode cX0_leastPrice 0 = .ok (.aload_n 0, 1) := dk_42 (dk_at dksX0_leastPrice_0 0 rfl rfl)
theorem dX0_leastPrice_1 : decode cX0_leastPrice 1 = .ok (.getfield 32, 3) := dk_180 0 32 (dk_at dksX0_leastPrice_0 1 rfl rfl)
theorem dX0_leastPrice_4 : decode cX0_leastPrice 4 = .ok (.getfield 325, 3) := dk_180 1 69 (dk_at dksX0_leastPrice_0 4 rfl rfl)
theorem dX0_leastPrice_7 : decode cX0_leastPrice 7 = .ok (.istore_n 1, 1) := dk_60 (dk_at dksX0_leastPrice_0 7 rfl rfl)
theorem dX0_leastPrice_8 : decode cX0_leastPrice 8 = .ok (.iconst 0, 1) := dk_3 (dk_at dksX0_leastPrice_0 8 rfl rfl)
theorem dX0_leastPrice_9 : decode cX0_leastPrice 9 = .ok (.istore_n 2, 1) := dk_61 (dk_at dksX0_leastPrice_0 9 rfl rfl)
theorem dX0_leastPrice_10 : decode cX0_leastPrice 10 = .ok (.iinc 2 1, 3) := dk_132 2 1 (dk_at dksX0_leastPrice_0 10 rfl rfl)
theorem dX0_leastPrice_13 : decode cX0_leastPrice 13 = .ok (.aload_n 0, 1) := dk_42 (dk_at dksX0_leastPrice_0 13 rfl rfl)
theorem dX0_leastPrice_14 : decode cX0_leastPrice 14 = .ok (.getfield 32, 3) := dk_180 0 32 (dk_at dksX0_leastPrice_0 14 rfl rfl)
theorem dX0_leastPrice_17 : decode cX0_leastPrice 17 = .ok (.iload_n 2, 1) := dk_28 (dk_at dksX0_leastPrice_0 17 rfl rfl)
theorem dX0_leastPrice_18 : decode cX0_leastPrice 18 = .ok (.putfield 325, 3) := dk_181 1 69 (dk_at dksX0_leastPrice_0 18 rfl rfl)
theorem dX0_leastPrice_21 : decode cX0_leastPrice 21 = .ok (.iload_n 2, 1) := dk_28 (dk_at dksX0_leastPrice_0 21 rfl rfl)
theorem dX0_leastPrice_22 : decode cX0_leastPrice 22 = .ok (.bipush 99, 2) := dk_16 99 (dk_at dksX0_leastPrice_0 22 rfl rfl)
theorem dX0_leastPrice_24 : decode cX0_leastPrice 24 = .ok (.if_icmp .ge 13, 3) := dk_162 0 13 (dk_at dksX0_leastPrice_1 0 rfl rfl)
theorem dX0_leastPrice_27 : decode cX0_leastPrice 27 = .ok (.aload_n 0, 1) := dk_42 (dk_at dksX0_leastPrice_1 3 rfl rfl)
theorem dX0_leastPrice_28 : decode cX0_leastPrice 28 = .ok (.getfield 32, 3) := dk_180 0 32 (dk_at dksX0_leastPrice_1 4 rfl rfl)
theorem dX0_leastPrice_31 : decode cX0_leastPrice 31 = .ok (.invokevirtual 348, 3) := dk_182 1 92 (dk_at dksX0_leastPrice_1 7 rfl rfl)
theorem dX0_leastPrice_34 : decode cX0_leastPrice 34 = .ok (.ifCond .gt (-24), 3) := dk_157 255 232 (dk_at dksX0_leastPrice_1 10 rfl rfl)
theorem dX0_leastPrice_37 : decode cX0_leastPrice 37 = .ok (.aload_n 0, 1) := dk_42 (dk_at dksX0_leastPrice_1 13 rfl rfl)
theorem dX0_leastPrice_38 : decode cX0_leastPrice 38 = .ok (.getfield 32, 3) := dk_180 0 32 (dk_at dksX0_leastPrice_1 14 rfl rfl)
theorem dX0_leastPrice_41 : decode cX0_leastPrice 41 = .ok (.invokevirtual 348, 3) := dk_182 1 92 (dk_at dksX0_leastPrice_1 17 rfl rfl)
theorem dX0_leastPrice_44 : decode cX0_leastPrice 44 = .ok (.ifCond .ne 7, 3) := dk_154 0 7 (dk_at dksX0_leastPrice_1 20 rfl rfl)
theorem dX0_leastPrice_47 : decode cX0_leastPrice 47 = .ok (.iconst 1, 1) := dk_4 (dk_at dksX0_leastPrice_1 23 rfl rfl)
theorem dX0_leastPrice_48 : decode cX0_leastPrice 48 = .ok (.goto 4, 3) := dk_167 0 4 (dk_at dksX0_leastPrice_2 0 rfl rfl)
theorem dX0_leastPrice_51 : decode cX0_leastPrice 51 = .ok (.iconst 0, 1) := dk_3 (dk_at dksX0_leastPrice_2 3 rfl rfl)
theorem dX0_leastPrice_52 : decode cX0_leastPrice 52 = .ok (.istore_n 3, 1) := dk_62 (dk_at dksX0_leastPrice_2 4 rfl rfl)
theorem dX0_leastPrice_53 : decode cX0_leastPrice 53 = .ok (.aload_n 0, 1) := dk_42 (dk_at dksX0_leastPrice_2 5 rfl rfl)
theorem dX0_leastPrice_54 : decode cX0_leastPrice 54 = .ok (.getfield 32, 3) := dk_180 0 32 (dk_at dksX0_leastPrice_2 6 rfl rfl)
theorem dX0_leastPrice_57 : decode cX0_leastPrice 57 = .ok (.iload_n 1, 1) := dk_27 (dk_at dksX0_leastPrice_2 9 rfl rfl)
theorem dX0_leastPrice_58 : decode cX0_leastPrice 58 = .ok (.putfield 325, 3) := dk_181 1 69 (dk_at dksX0_leastPrice_2 10 rfl rfl)
theorem dX0_leastPrice_61 : decode cX0_leastPrice 61 = .ok (.iload_n 3, 1) := dk_29 (dk_at dksX0_leastPrice_2 13 rfl rfl)
theorem dX0_leastPrice_62 : decode cX0_leastPrice 62 = .ok (.ifCond .eq 7, 3) := dk_153 0 7 (dk_at dksX0_leastPrice_2 14 rfl rfl)
theorem dX0_leastPrice_65 : decode cX0_leastPrice 65 = .ok (.iload_n 2, 1) := dk_28 (dk_at dksX0_leastPrice_2 17 rfl rfl)
theorem dX0_leastPrice_66 : decode cX0_leastPrice 66 = .ok (.goto 5, 3) := dk_167 0 5 (dk_at dksX0_leastPrice_2 18 rfl rfl)
theorem dX0_leastPrice_69 : decode cX0_leastPrice 69 = .ok (.bipush (-2), 2) := dk_16 254 (dk_at dksX0_leastPrice_2 21 rfl rfl)
theorem dX0_leastPrice_71 : decode cX0_leastPrice 71 = .ok (.ireturn, 1) := dk_172 (dk_at dksX0_leastPrice_2 23 rfl rfl)
abbrev cX0_evenest : ByteArray := prog_1_method_76_code
def yX0_evenest : MethodName := ⟨RX0, "evenest", "(I)I"⟩
def dkwX0_evenest_6 : List UInt8 := [160, 0, 8, 21, 7, 167, 0, 5, 21, 4, 54, 4, 132, 5, 1, 167, 255, 139, 29, 172]
abbrev dktX0_evenest_6 : List UInt8 := dkwX0_evenest_6 ++ []
def dkwX0_evenest_5 : List UInt8 := [54, 7, 29, 155, 0, 10, 21, 7, 21, 4, 162, 0, 8, 21, 5, 167, 0, 4, 29, 62, 29, 21, 5]
abbrev dktX0_evenest_5 : List UInt8 := dkwX0_evenest_5 ++ dktX0_evenest_6
def dkwX0_evenest_4 : List UInt8 := [180, 0, 109, 104, 167, 0, 20, 5, 21, 5, 104, 44, 180, 0, 109, 100, 184, 1, 224, 44, 180, 0, 106, 104]
abbrev dktX0_evenest_4 : List UInt8 := dkwX0_evenest_4 ++ dktX0_evenest_5
def dkwX0_evenest_3 : List UInt8 := [21, 6, 4, 160, 0, 26, 5, 21, 5, 16, 100, 112, 104, 44, 180, 0, 106, 100, 184, 1, 224, 44]
abbrev dktX0_evenest_3 : List UInt8 := dkwX0_evenest_3 ++ dktX0_evenest_4
def dkwX0_evenest_2 : List UInt8 := [162, 0, 111, 21, 5, 16, 100, 108, 54, 6, 44, 21, 6, 21, 5, 16, 100, 112, 184, 0, 120, 153, 0, 84]
abbrev dktX0_evenest_2 : List UInt8 := dkwX0_evenest_2 ++ dktX0_evenest_3
def dkwX0_evenest_1 : List UInt8 := [154, 0, 6, 16, 252, 172, 16, 254, 62, 3, 54, 4, 4, 54, 5, 21, 5, 16, 100, 44, 180, 0, 106, 96]
abbrev dktX0_evenest_1 : List UInt8 := dkwX0_evenest_1 ++ dktX0_evenest_2
def dkwX0_evenest_0 : List UInt8 := [42, 27, 182, 0, 110, 154, 0, 5, 2, 172, 42, 180, 0, 32, 27, 182, 0, 116, 77, 44, 182, 1, 59]
abbrev dktX0_evenest_0 : List UInt8 := dkwX0_evenest_0 ++ dktX0_evenest_1
theorem dksX0_evenest_0 : cX0_evenest.data.toList.drop 0 = dktX0_evenest_0 := by decide +kernel
theorem dksX0_evenest_1 : cX0_evenest.data.toList.drop 23 = dktX0_evenest_1 := dk_seg dksX0_evenest_0 23 rfl rfl
theorem dksX0_evenest_2 : cX0_evenest.data.toList.drop 47 = dktX0_evenest_2 := dk_seg dksX0_evenest_1 24 rfl rfl
theorem dksX0_evenest_3 : cX0_evenest.data.toList.drop 71 = dktX0_evenest_3 := dk_seg dksX0_evenest_2 24 rfl rfl
theorem dksX0_evenest_4 : cX0_evenest.data.toList.drop 93 = dktX0_evenest_4 := dk_seg dksX0_evenest_3 22 rfl rfl
theorem dksX0_evenest_5 : cX0_evenest.data.toList.drop 117 = dktX0_evenest_5 := dk_seg dksX0_evenest_4 24 rfl rfl
theorem dksX0_evenest_6 : cX0_evenest.data.toList.drop 140 = dktX0_evenest_6 := dk_seg dksX0_evenest_5 23 rfl rfl
theorem dX0_evenest_0 : decode cX0_evenest 0 = .ok (.aload_n 0, 1) := dk_42 (dk_at dksX0_evenest_0 0 rfl rfl)
theorem dX0_evenest_1 : decode cX0_evenest 1 = .ok (.iload_n 1, 1) := dk_27 (dk_at dksX0_evenest_0 1 rfl rfl)
theorem dX0_evenest_2 : decode cX0_evenest 2 = .ok (.invokevirtual 110, 3) := dk_182 0 110 (dk_at dksX0_evenest_0 2 rfl rfl)
theorem dX0_evenest_5 : decode cX0_evenest 5 = .ok (.ifCond .ne 5, 3) := dk_154 0 5 (dk_at dksX0_evenest_0 5 rfl rfl)
theorem dX0_evenest_8 : decode cX0_evenest 8 = .ok (.iconst (-1), 1) := dk_2 (dk_at dksX0_evenest_0 8 rfl rfl)
theorem dX0_evenest_9 : decode cX0_evenest 9 = .ok (.ireturn, 1) := dk_172 (dk_at dksX0_evenest_0 9 rfl rfl)
theorem dX0_evenest_10 : decode cX0_evenest 10 = .ok (.aload_n 0, 1) := dk_42 (dk_at dksX0_evenest_0 10 rfl rfl)
theorem dX0_evenest_11 : decode cX0_evenest 11 = .ok (.getfield 32, 3) := dk_180 0 32 (dk_at dksX0_evenest_0 11 rfl rfl)
theorem dX0_evenest_14 : decode cX0_evenest 14 = .ok (.iload_n 1, 1) := dk_27 (dk_at dksX0_evenest_0 14 rfl rfl)
theorem dX0_evenest_15 : decode cX0_evenest 15 = .ok (.invokevirtual 116, 3) := dk_182 0 116 (dk_at dksX0_evenest_0 15 rfl rfl)
theorem dX0_evenest_18 : decode cX0_evenest 18 = .ok (.astore_n 2, 1) := dk_77 (dk_at dksX0_evenest_0 18 rfl rfl)
theorem dX0_evenest_19 : decode cX0_evenest 19 = .ok (.aload_n 2, 1) := dk_44 (dk_at dksX0_evenest_0 19 rfl rfl)
theorem dX0_evenest_20 : decode cX0_evenest 20 = .ok (.invokevirtual 315, 3) := dk_182 1 59 (dk_at dksX0_evenest_0 20 rfl rfl)
theorem dX0_evenest_23 : decode cX0_evenest 23 = .ok (.ifCond .ne 6, 3) := dk_154 0 6 (dk_at dksX0_evenest_1 0 rfl rfl)
theorem dX0_evenest_26 : decode cX0_evenest 26 = .ok (.bipush (-4), 2) := dk_16 252 (dk_at dksX0_evenest_1 3 rfl rfl)
theorem dX0_evenest_28 : decode cX0_evenest 28 = .ok (.ireturn, 1) := dk_172 (dk_at dksX0_evenest_1 5 rfl rfl)
theorem dX0_evenest_29 : decode cX0_evenest 29 = .ok (.bipush (-2), 2) := dk_16 254 (dk_at dksX0_evenest_1 6 rfl rfl)
theorem dX0_evenest_31 : decode cX0_evenest 31 = .ok (.istore_n 3, 1) := dk_62 (dk_at dksX0_evenest_1 8 rfl rfl)
theorem dX0_evenest_32 : decode cX0_evenest 32 = .ok (.iconst 0, 1) := dk_3 (dk_at dksX0_evenest_1 9 rfl rfl)
theorem dX0_evenest_33 : decode cX0_evenest 33 = .ok (.istore 4, 2) := dk_54 4 (dk_at dksX0_evenest_1 10 rfl rfl)
theorem dX0_evenest_35 : decode cX0_evenest 35 = .ok (.iconst 1, 1) := dk_4 (dk_at dksX0_evenest_1 12 rfl rfl)
theorem dX0_evenest_36 : decode cX0_evenest 36 = .ok (.istore 5, 2) := dk_54 5 (dk_at dksX0_evenest_1 13 rfl rfl)
theorem dX0_evenest_38 : decode cX0_evenest 38 = .ok (.iload 5, 2) := dk_21 5 (dk_at dksX0_evenest_1 15 rfl rfl)
theorem dX0_evenest_40 : decode cX0_evenest 40 = .ok (.bipush 100, 2) := dk_16 100 (dk_at dksX0_evenest_1 17 rfl rfl)
theorem dX0_evenest_42 : decode cX0_evenest 42 = .ok (.aload_n 2, 1) := dk_44 (dk_at dksX0_evenest_1 19 rfl rfl)
theorem dX0_evenest_43 : decode cX0_evenest 43 = .ok (.getfield 106, 3) := dk_180 0 106 (dk_at dksX0_evenest_1 20 rfl rfl)
theorem dX0_evenest_46 : decode cX0_evenest 46 = .ok (.iadd, 1) := dk_96 (dk_at dksX0_evenest_1 23 rfl rfl)
theorem dX0_evenest_47 : decode cX0_evenest 47 = .ok (.if_icmp .ge 111, 3) := dk_162 0 111 (dk_at dksX0_evenest_2 0 rfl rfl)
theorem dX0_evenest_50 : decode cX0_evenest 50 = .ok (.iload 5, 2) := dk_21 5 (dk_at dksX0_evenest_2 3 rfl rfl)
theorem dX0_evenest_52 : decode cX0_evenest 52 = .ok (.bipush 100, 2) := dk_16 100 (dk_at dksX0_evenest_2 5 rfl rfl)
theorem dX0_evenest_54 : decode cX0_evenest 54 = .ok (.idiv, 1) := dk_108 (dk_at dksX0_evenest_2 7 rfl rfl)
theorem dX0_evenest_55 : decode cX0_evenest 55 = .ok (.istore 6, 2) := dk_54 6 (dk_at dksX0_evenest_2 8 rfl rfl)
theorem dX0_evenest_57 : decode cX0_evenest 57 = .ok (.aload_n 2, 1) := dk_44 (dk_at dksX0_evenest_2 10 rfl rfl)
theorem dX0_evenest_58 : decode cX0_evenest 58 = .ok (.iload 6, 2) := dk_21 6 (dk_at dksX0_evenest_2 11 rfl rfl)
theorem dX0_evenest_60 : decode cX0_evenest 60 = .ok (.iload 5, 2) := dk_21 5 (dk_at dksX0_evenest_2 13 rfl rfl)
theorem dX0_evenest_62 : decode cX0_evenest 62 = .ok (.bipush 100, 2) := dk_16 100 (dk_at dksX0_evenest_2 15 rfl rfl)
theorem dX0_evenest_64 : decode cX0_evenest 64 = .ok (.irem, 1) := dk_112 (dk_at dksX0_evenest_2 17 rfl rfl)
theorem dX0_evenest_65 : decode cX0_evenest 65 = .ok (.invokestatic 120, 3) := dk_184 0 120 (dk_at dksX0_evenest_2 18 rfl rfl)
theorem dX0_evenest_68 : decode cX0_evenest 68 = .ok (.ifCond .eq 84, 3) := dk_153 0 84 (dk_at dksX0_evenest_2 21 rfl rfl)
theorem dX0_evenest_71 : decode cX0_evenest 71 = .ok (.iload 6, 2) := dk_21 6 (dk_at dksX0_evenest_3 0 rfl rfl)
theorem dX0_evenest_73 : decode cX0_evenest 73 = .ok (.iconst 1, 1) := dk_4 (dk_at dksX0_evenest_3 2 rfl rfl)
theorem dX0_evenest_74 : decode cX0_evenest 74 = .ok (.if_icmp .ne 26, 3) := dk_160 0 26 (dk_at dksX0_evenest_3 3 rfl rfl)
theorem dX0_evenest_77 : decode cX0_evenest 77 = .ok (.iconst 2, 1) := dk_5 (dk_at dksX0_evenest_3 6 rfl rfl)
theorem dX0_evenest_78 : decode cX0_evenest 78 = .ok (.iload 5, 2) := dk_21 5 (dk_at dksX0_evenest_3 7 rfl rfl)
theorem dX0_evenest_80 : decode cX0_evenest 80 = .ok (.bipush 100, 2) := dk_16 100 (dk_at dksX0_evenest_3 9 rfl rfl)
theorem dX0_evenest_82 : decode cX0_evenest 82 = .ok (.irem, 1) := dk_112 (dk_at dksX0_evenest_3 11 rfl rfl)
theorem dX0_evenest_83 : decode cX0_evenest 83 = .ok (.imul, 1) := dk_104 (dk_at dksX0_evenest_3 12 rfl rfl)
theorem dX0_evenest_84 : decode cX0_evenest 84 = .ok (.aload_n 2, 1) := dk_44 (dk_at dksX0_evenest_3 13 rfl rfl)
theorem dX0_evenest_85 : decode cX0_evenest 85 = .ok (.getfield 106, 3) := dk_180 0 106 (dk_at dksX0_evenest_3 14 rfl rfl)
theorem dX0_evenest_88 : decode cX0_evenest 88 = .ok (.isub, 1) := dk_100 (dk_at dksX0_evenest_3 17 rfl rfl)
theorem dX0_evenest_89 : decode cX0_evenest 89 = .ok (.invokestatic 480, 3) := dk_184 1 224 (dk_at dksX0_evenest_3 18 rfl rfl)
theorem dX0_evenest_92 : decode cX0_evenest 92 = .ok (.aload_n 2, 1) := dk_44 (dk_at dksX0_evenest_3 21 rfl rfl)
theorem dX0_evenest_93 : decode cX0_evenest 93 = .ok (.getfield 109, 3) := dk_180 0 109 (dk_at dksX0_evenest_4 0 rfl rfl)
theorem dX0_evenest_96 : decode cX0_evenest 96 = .ok (.imul, 1) := dk_104 (dk_at dksX0_evenest_4 3 rfl rfl)
theorem dX0_evenest_97 : decode cX0_evenest 97 = .ok (.goto 20, 3) := dk_167 0 20 (dk_at dksX0_evenest_4 4 rfl rfl)
theorem dX0_evenest_100 : decode cX0_evenest 100 = .ok (.iconst 2, 1) := dk_5 (dk_at dksX0_evenest_4 7 rfl rfl)
theorem dX0_evenest_101 : decode cX0_evenest 101 = .ok (.iload 5, 2) := dk_21 5 (dk_at dksX0_evenest_4 8 rfl rfl)
theorem dX0_evenest_103 : decode cX0_evenest 103 = .ok (.imul, 1) := dk_104 (dk_at dksX0_evenest_4 10 rfl rfl)
theorem dX0_evenest_104 : decode cX0_evenest 104 = .ok (.aload_n 2, 1) := dk_44 (dk_at dksX0_evenest_4 11 rfl rfl)
theorem dX0_evenest_105 : decode cX0_evenest 105 = .ok (.getfield 109, 3) := dk_180 0 109 (dk_at dksX0_evenest_4 12 rfl rfl)
theorem dX0_evenest_108 : decode cX0_evenest 108 = .ok (.isub, 1) := dk_100 (dk_at dksX0_evenest_4 15 rfl rfl)
theorem dX0_evenest_109 : decode cX0_evenest 109 = .ok (.invokestatic 480, 3) := dk_184 1 224 (dk_at dksX0_evenest_4 16 rfl rfl)
theorem dX0_evenest_112 : decode cX0_evenest 112 = .ok (.aload_n 2, 1) := dk_44 (dk_at dksX0_evenest_4 19 rfl rfl)
theorem dX0_evenest_113 : decode cX0_evenest 113 = .ok (.getfield 106, 3) := dk_180 0 106 (dk_at dksX0_evenest_4 20 rfl rfl)
theorem dX0_evenest_116 : decode cX0_evenest 116 = .ok (.imul, 1) := dk_104 (dk_at dksX0_evenest_4 23 rfl rfl)
theorem dX0_evenest_117 : decode cX0_evenest 117 = .ok (.istore 7, 2) := dk_54 7 (dk_at dksX0_evenest_5 0 rfl rfl)
theorem dX0_evenest_119 : decode cX0_evenest 119 = .ok (.iload_n 3, 1) := dk_29 (dk_at dksX0_evenest_5 2 rfl rfl)
theorem dX0_evenest_120 : decode cX0_evenest 120 = .ok (.ifCond .lt 10, 3) := dk_155 0 10 (dk_at dksX0_evenest_5 3 rfl rfl)
theorem dX0_evenest_123 : decode cX0_evenest 123 = .ok (.iload 7, 2) := dk_21 7 (dk_at dksX0_evenest_5 6 rfl rfl)
theorem dX0_evenest_125 : decode cX0_evenest 125 = .ok (.iload 4, 2) := dk_21 4 (dk_at dksX0_evenest_5 8 rfl rfl)
theorem dX0_evenest_127 : decode cX0_evenest 127 = .ok (.if_icmp .ge 8, 3) := dk_162 0 8 (dk_at dksX0_evenest_5 10 rfl rfl)
theorem dX0_evenest_130 : decode cX0_evenest 130 = .ok (.iload 5, 2) := dk_21 5 (dk_at dksX0_evenest_5 13 rfl rfl)
theorem dX0_evenest_132 : decode cX0_evenest 132 = .ok (.goto 4, 3) := dk_167 0 4 (dk_at dksX0_evenest_5 15 rfl rfl)
theorem dX0_evenest_135 : decode cX0_evenest 135 = .ok (.iload_n 3, 1) := dk_29 (dk_at dksX0_evenest_5 18 rfl rfl)
theorem dX0_evenest_136 : decode cX0_evenest 136 = .ok (.istore_n 3, 1) := dk_62 (dk_at dksX0_evenest_5 19 rfl rfl)
theorem dX0_evenest_137 : decode cX0_evenest 137 = .ok (.iload_n 3, 1) := dk_29 (dk_at dksX0_evenest_5 20 rfl rfl)
theorem dX0_evenest_138 : decode cX0_evenest 138 = .ok (.iload 5, 2) := dk_21 5 (dk_at dksX0_evenest_5 21 rfl rfl)
theorem dX0_evenest_140 : decode cX0_evenest 140 = .ok (.if_icmp .ne 8, 3) := dk_160 0 8 (dk_at dksX0_evenest_6 0 rfl rfl)
theorem dX0_evenest_143 : decode cX0_evenest 143 = .ok (.iload 7, 2) := dk_21 7 (dk_at dksX0_evenest_6 3 rfl rfl)
theorem dX0_evenest_145 : decode cX0_evenest 145 = .ok (.goto 5, 3) := dk_167 0 5 (dk_at dksX0_evenest_6 5 rfl rfl)
theorem dX0_evenest_148 : decode cX0_evenest 148 = .ok (.iload 4, 2) := dk_21 4 (dk_at dksX0_evenest_6 8 rfl rfl)
theorem dX0_evenest_150 : decode cX0_evenest 150 = .ok (.istore 4, 2) := dk_54 4 (dk_at dksX0_evenest_6 10 rfl rfl)
theorem dX0_evenest_152 : decode cX0_evenest 152 = .ok (.iinc 5 1, 3) := dk_132 5 1 (dk_at dksX0_evenest_6 12 rfl rfl)
theorem dX0_evenest_155 : decode cX0_evenest 155 = .ok (.goto (-117), 3) := dk_167 255 139 (dk_at dksX0_evenest_6 15 rfl rfl)
theorem dX0_evenest_158 : decode cX0_evenest 158 = .ok (.iload_n 3, 1) := dk_29 (dk_at dksX0_evenest_6 18 rfl rfl)
theorem dX0_evenest_159 : decode cX0_evenest 159 = .ok (.ireturn, 1) := dk_172 (dk_at dksX0_evenest_6 19 rfl rfl)
abbrev cX0_log : ByteArray := prog_1_method_77_code
def yX0_log : MethodName := ⟨RX0, "log", "(II)I"⟩
def dkwX0_log_2 : List UInt8 := [167, 0, 5, 16, 254, 172]
abbrev dktX0_log_2 : List UInt8 := dkwX0_log_2 ++ []
def dkwX0_log_1 : List UInt8 := [182, 0, 92, 162, 0, 24, 42, 180, 0, 32, 180, 1, 98, 27, 182, 1, 164, 192, 1, 227, 28, 182, 1, 229]
abbrev dktX0_log_1 : List UInt8 := dkwX0_log_1 ++ dktX0_log_2
def dkwX0_log_0 : List UInt8 := [27, 155, 0, 12, 28, 3, 5, 184, 0, 78, 154, 0, 5, 2, 172, 27, 42, 180, 0, 32, 180, 1, 98]
abbrev dktX0_log_0 : List UInt8 := dkwX0_log_0 ++ dktX0_log_1
theorem dksX0_log_0 : cX0_log.data.toList.drop 0 = dktX0_log_0 := by decide +kernel
theorem dksX0_log_1 : cX0_log.data.toList.drop 23 = dktX0_log_1 := dk_seg dksX0_log_0 23 rfl rfl
theorem dksX0_log_2 : cX0_log.data.toList.drop 47 = dktX0_log_2 := dk_seg dksX0_log_1 24 rfl rfl
theorem dX0_log_0 : decode cX0_log 0 = .ok (.iload_n 1, 1) := dk_27 (dk_at dksX0_log_0 0 rfl rfl)
theorem dX0_log_1 : decode cX0_log 1 = .ok (.ifCond .lt 12, 3) := dk_155 0 12 (dk_at dksX0_log_0 1 rfl rfl)
theorem dX0_log_4 : decode cX0_log 4 = .ok (.iload_n 2, 1) := dk_28 (dk_at dksX0_log_0 4 rfl rfl)
theorem dX0_log_5 : decode cX0_log 5 = .ok (.iconst 0, 1) := dk_3 (dk_at dksX0_log_0 5 rfl rfl)
theorem dX0_log_6 : decode cX0_log 6 = .ok (.iconst 2, 1) := dk_5 (dk_at dksX0_log_0 6 rfl rfl)
theorem dX0_log_7 : decode cX0_log 7 = .ok (.invokestatic 78, 3) := dk_184 0 78 (dk_at dksX0_log_0 7 rfl rfl)
theorem dX0_log_10 : decode cX0_log 10 = .ok (.ifCond .ne 5, 3) := dk_154 0 5 (dk_at dksX0_log_0 10 rfl rfl)
theorem dX0_log_13 : decode cX0_log 13 = .ok (.iconst (-1), 1) := dk_2 (dk_at dksX0_log_0 13 rfl rfl)
theorem dX0_log_14 : decode cX0_log 14 = .ok (.ireturn, 1) := dk_172 (dk_at dksX0_log_0 14 rfl rfl)
theorem dX0_log_15 : decode cX0_log 15 = .ok (.iload_n 1, 1) := dk_27 (dk_at dksX0_log_0 15 rfl rfl)
theorem dX0_log_16 : decode cX0_log 16 = .ok (.aload_n 0, 1) := dk_42 (dk_at dksX0_log_0 16 rfl rfl)
theorem dX0_log_17 : decode cX0_log 17 = .ok (.getfield 32, 3) := dk_180 0 32 (dk_at dksX0_log_0 17 rfl rfl)
theorem dX0_log_20 : decode cX0_log 20 = .ok (.getfield 354, 3) := dk_180 1 98 (dk_at dksX0_log_0 20 rfl rfl)
theorem dX0_log_23 : decode cX0_log 23 = .ok (.invokevirtual 92, 3) := dk_182 0 92 (dk_at dksX0_log_1 0 rfl rfl)
theorem dX0_log_26 : decode cX0_log 26 = .ok (.if_icmp .ge 24, 3) := dk_162 0 24 (dk_at dksX0_log_1 3 rfl rfl)
theorem dX0_log_29 : decode cX0_log 29 = .ok (.aload_n 0, 1) := dk_42 (dk_at dksX0_log_1 6 rfl rfl)
theorem dX0_log_30 : decode cX0_log 30 = .ok (.getfield 32, 3) := dk_180 0 32 (dk_at dksX0_log_1 7 rfl rfl)
theorem dX0_log_33 : decode cX0_log 33 = .ok (.getfield 354, 3) := dk_180 1 98 (dk_at dksX0_log_1 10 rfl rfl)
theorem dX0_log_36 : decode cX0_log 36 = .ok (.iload_n 1, 1) := dk_27 (dk_at dksX0_log_1 13 rfl rfl)
theorem dX0_log_37 : decode cX0_log 37 = .ok (.invokevirtual 420, 3) := dk_182 1 164 (dk_at dksX0_log_1 14 rfl rfl)
theorem dX0_log_40 : decode cX0_log 40 = .ok (.checkcast 483, 3) := dk_192 1 227 (dk_at dksX0_log_1 17 rfl rfl)
theorem dX0_log_43 : decode cX0_log 43 = .ok (.iload_n 2, 1) := dk_28 (dk_at dksX0_log_1 20 rfl rfl)
theorem dX0_log_44 : decode cX0_log 44 = .ok (.invokevirtual 485, 3) := dk_182 1 229 (dk_at dksX0_log_1 21 rfl rfl)
theorem dX0_log_47 : decode cX0_log 47 = .ok (.goto 5, 3) := dk_167 0 5 (dk_at dksX0_log_2 0 rfl rfl)
theorem dX0_log_50 : decode cX0_log 50 = .ok (.bipush (-2), 2) := dk_16 254 (dk_at dksX0_log_2 3 rfl rfl)
theorem dX0_log_52 : decode cX0_log 52 = .ok (.ireturn, 1) := dk_172 (dk_at dksX0_log_2 5 rfl rfl)
abbrev cX0_loaded : ByteArray := prog_1_method_78_code
def yX0_loaded : MethodName := ⟨RX0, "loaded", "(I)F"⟩
def dkwX0_loaded_1 : List UInt8 := [182, 1, 139, 134, 110, 167, 0, 6, 19, 1, 232, 174]
abbrev dktX0_loaded_1 : List UInt8 := dkwX0_loaded_1 ++ []
def dkwX0_loaded_0 : List UInt8 := [42, 27, 182, 0, 110, 153, 0, 25, 42, 180, 0, 32, 27, 182, 1, 136, 134, 42, 180, 0, 32, 27]
abbrev dktX0_loaded_0 : List UInt8 := dkwX0_loaded_0 ++ dktX0_loaded_1
theorem dksX0_loaded_0 : cX0_loaded.data.toList.drop 0 = dktX0_loaded_0 := by decide +kernel
theorem dksX0_loaded_1 : cX0_loaded.data.toList.drop 22 = dktX0_loaded_1 := dk_seg dksX0_loaded_0 22 rfl rfl
theorem dX0_loaded_0 : decode cX0_loaded 0 = .ok (.aload_n 0, 1) := dk_42 (dk_at dksX0_loaded_0 0 rfl rfl)
theorem dX0_loaded_1 : decode cX0_loaded 1 = .ok (.iload_n 1, 1) := dk_27 (dk_at dksX0_loaded_0 1 rfl rfl)
theorem dX0_loaded_2 : decode cX0_loaded 2 = .ok (.invokevirtual 110, 3) := dk_182 0 110 (dk_at dksX0_loaded_0 2 rfl rfl)
theorem dX0_loaded_5 : decode cX0_loaded 5 = .ok (.ifCond .eq 25, 3) := dk_153 0 25 (dk_at dksX0_loaded_0 5 rfl rfl)
theorem dX0_loaded_8 : decode cX0_loaded 8 = .ok (.aload_n 0, 1) := dk_42 (dk_at dksX0_loaded_0 8 rfl rfl)
theorem dX0_loaded_9 : decode cX0_loaded 9 = .ok (.getfield 32, 3) := dk_180 0 32 (dk_at dksX0_loaded_0 9 rfl rfl)
theorem dX0_loaded_12 : decode cX0_loaded 12 = .ok (.iload_n 1, 1) := dk_27 (dk_at dksX0_loaded_0 12 rfl rfl)
theorem dX0_loaded_13 : decode cX0_loaded 13 = .ok (.invokevirtual 392, 3) := dk_182 1 136 (dk_at dksX0_loaded_0 13 rfl rfl)
theorem dX0_loaded_16 : decode cX0_loaded 16 = .ok (.i2f, 1) := dk_134 (dk_at dksX0_loaded_0 16 rfl rfl)
theorem dX0_loaded_17 : decode cX0_loaded 17 = .ok (.aload_n 0, 1) := dk_42 (dk_at dksX0_loaded_0 17 rfl rfl)
theorem dX0_loaded_18 : decode cX0_loaded 18 = .ok (.getfield 32, 3) := dk_180 0 32 (dk_at dksX0_loaded_0 18 rfl rfl)
theorem dX0_loaded_21 : decode cX0_loaded 21 = .ok (.iload_n 1, 1) := dk_27 (dk_at dksX0_loaded_0 21 rfl rfl)
theorem dX0_loaded_22 : decode cX0_loaded 22 = .ok (.invokevirtual 395, 3) := dk_182 1 139 (dk_at dksX0_loaded_1 0 rfl rfl)
theorem dX0_loaded_25 : decode cX0_loaded 25 = .ok (.i2f, 1) := dk_134 (dk_at dksX0_loaded_1 3 rfl rfl)
theorem dX0_loaded_26 : decode cX0_loaded 26 = .ok (.fdiv, 1) := dk_110 (dk_at dksX0_loaded_1 4 rfl rfl)
theorem dX0_loaded_27 : decode cX0_loaded 27 = .ok (.goto 6, 3) := dk_167 0 6 (dk_at dksX0_loaded_1 5 rfl rfl)
theorem dX0_loaded_30 : decode cX0_loaded 30 = .ok (.ldc_w 488, 3) := dk_19 1 232 (dk_at dksX0_loaded_1 8 rfl rfl)
theorem dX0_loaded_33 : decode cX0_loaded 33 = .ok (.freturn, 1) := dk_174 (dk_at dksX0_loaded_1 11 rfl rfl)
abbrev cX0_meanArea : ByteArray := prog_1_method_79_code
def yX0_meanArea : MethodName := ⟨RX0, "meanArea", "()D"⟩
def dkwX0_meanArea_0 : List UInt8 := [42, 180, 0, 32, 180, 0, 100, 42, 180, 0, 32, 180, 0, 103, 104, 135, 42, 182, 1, 83, 135, 111, 175]
abbrev dktX0_meanArea_0 : List UInt8 := dkwX0_meanArea_0 ++ []
theorem dksX0_meanArea_0 : cX0_meanArea.data.toList.drop 0 = dktX0_meanArea_0 := by decide +kernel
theorem dX0_meanArea_0 : decode cX0_meanArea 0 = .ok (.aload_n 0, 1) := dk_42 (dk_at dksX0_meanArea_0 0 rfl rfl)
theorem dX0_meanArea_1 : decode cX0_meanArea 1 = .ok (.getfield 32, 3) := dk_180 0 32 (dk_at dksX0_meanArea_0 1 rfl rfl)
theorem dX0_meanArea_4 : decode cX0_meanArea 4 = .ok (.getfield 100, 3) := dk_180 0 100 (dk_at dksX0_meanArea_0 4 rfl rfl)
theorem dX0_meanArea_7 : decode cX0_meanArea 7 = .ok (.aload_n 0, 1) := dk_42 (dk_at dksX0_meanArea_0 7 rfl rfl)
theorem dX0_meanArea_8 : decode cX0_meanArea 8 = .ok (.getfield 32, 3) := dk_180 0 32 (dk_at dksX0_meanArea_0 8 rfl rfl)
theorem dX0_meanArea_11 : decode cX0_meanArea 11 = .ok (.getfield 103, 3) := dk_180 0 103 (dk_at dksX0_meanArea_0 11 rfl rfl)
theorem dX0_meanArea_14 : decode cX0_meanArea 14 = .ok (.imul, 1) := dk_104 (dk_at dksX0_meanArea_0 14 rfl rfl)
theorem dX0_meanArea_15 : decode cX0_meanArea 15 = .ok (.i2d, 1) := dk_135 (dk_at dksX0_meanArea_0 15 rfl rfl)
theorem dX0_meanArea_16 : decode cX0_meanArea 16 = .ok (.aload_n 0, 1) := dk_42 (dk_at dksX0_meanArea_0 16 rfl rfl)
theorem dX0_meanArea_17 : decode cX0_meanArea 17 = .ok (.invokevirtual 339, 3) := dk_182 1 83 (dk_at dksX0_meanArea_0 17 rfl rfl)
theorem dX0_meanArea_20 : decode cX0_meanArea 20 = .ok (.i2d, 1) := dk_135 (dk_at dksX0_meanArea_0 20 rfl rfl)
theorem dX0_meanArea_21 : decode cX0_meanArea 21 = .ok (.ddiv, 1) := dk_111 (dk_at dksX0_meanArea_0 21 rfl rfl)
theorem dX0_meanArea_22 : decode cX0_meanArea 22 = .ok (.dreturn, 1) := dk_175 (dk_at dksX0_meanArea_0 22 rfl rfl)
abbrev cX0_mapLength : ByteArray := prog_1_method_84_code
def yX0_mapLength : MethodName := ⟨RX0, "mapLength", "()I"⟩
def dkwX0_mapLength_0 : List UInt8 := [42, 182, 1, 244, 182, 1, 242, 172]
abbrev dktX0_mapLength_0 : List UInt8 := dkwX0_mapLength_0 ++ []
theorem dksX0_mapLength_0 : cX0_mapLength.data.toList.drop 0 = dktX0_mapLength_0 := by decide +kernel
theorem dX0_mapLength_0 : decode cX0_mapLength 0 = .ok (.aload_n 0, 1) := dk_42 (dk_at dksX0_mapLength_0 0 rfl rfl)
theorem dX0_mapLength_1 : decode cX0_mapLength 1 = .ok (.invokevirtual 500, 3) := dk_182 1 244 (dk_at dksX0_mapLength_0 1 rfl rfl)
theorem dX0_mapLength_4 : decode cX0_mapLength 4 = .ok (.invokevirtual 498, 3) := dk_182 1 242 (dk_at dksX0_mapLength_0 4 rfl rfl)
theorem dX0_mapLength_7 : decode cX0_mapLength 7 = .ok (.ireturn, 1) := dk_172 (dk_at dksX0_mapLength_0 7 rfl rfl)
abbrev cX0_map : ByteArray := prog_1_method_81_code
def yX0_map : MethodName := ⟨RX0, "map", "()Ljava/lang/StringBuilder;"⟩
def dkwX0_map_3 : List UInt8 := [176]
abbrev dktX0_map_3 : List UInt8 := dkwX0_map_3 ++ []
def dkwX0_map_2 : List UInt8 := [182, 0, 182, 87, 132, 3, 1, 167, 255, 225, 43, 16, 10, 182, 0, 182, 87, 132, 2, 1, 167, 255, 199, 43]
abbrev dktX0_map_2 : List UInt8 := dkwX0_map_2 ++ dktX0_map_3
def dkwX0_map_1 : List UInt8 := [42, 180, 0, 32, 180, 0, 100, 162, 0, 26, 43, 42, 180, 0, 32, 29, 28, 182, 1, 12, 184, 1, 233]
abbrev dktX0_map_1 : List UInt8 := dkwX0_map_1 ++ dktX0_map_2
def dkwX0_map_0 : List UInt8 := [187, 0, 179, 89, 183, 0, 181, 76, 3, 61, 28, 42, 180, 0, 32, 180, 0, 103, 162, 0, 52, 3, 62, 29]
abbrev dktX0_map_0 : List UInt8 := dkwX0_map_0 ++ dktX0_map_1
theorem dksX0_map_0 : cX0_map.data.toList.drop 0 = dktX0_map_0 := by decide +kernel
theorem dksX0_map_1 : cX0_map.data.toList.drop 24 = dktX0_map_1 := dk_seg dksX0_map_0 24 rfl rfl
theorem dksX0_map_2 : cX0_map.data.toList.drop 47 = dktX0_map_2 := dk_seg dksX0_map_1 23 rfl rfl
theorem dksX0_map_3 : cX0_map.data.toList.drop 71 = dktX0_map_3 := dk_seg dksX0_map_2 24 rfl rfl
theorem dX0_map_0 : decode cX0_map 0 = .ok (.new 179, 3) := dk_187 0 179 (dk_at dksX0_map_0 0 rfl rfl)
theorem dX0_map_3 : decode cX0_map 3 = .ok (.dup, 1) := dk_89 (dk_at dksX0_map_0 3 rfl rfl)
theorem dX0_map_4 : decode cX0_map 4 = .ok (.invokespecial 181, 3) := dk_183 0 181 (dk_at dksX0_map_0 4 rfl rfl)
theorem dX0_map_7 : decode cX0_map 7 = .ok (.astore_n 1, 1) := dk_76 (dk_at dksX0_map_0 7 rfl rfl)
theorem dX0_map_8 : decode cX0_map 8 = .ok (.iconst 0, 1) := dk_3 (dk_at dksX0_map_0 8 rfl rfl)
theorem dX0_map_9 : decode cX0_map 9 = .ok (.istore_n 2, 1) := dk_61 (dk_at dksX0_map_0 9 rfl rfl)
theorem dX0_map_10 : decode cX0_map 10 = .ok (.iload_n 2, 1) := dk_28 (dk_at dksX0_map_0 10 rfl rfl)
theorem dX0_map_11 : decode cX0_map 11 = .ok (.aload_n 0, 1) := dk_42 (dk_at dksX0_map_0 11 rfl rfl)
theorem dX0_map_12 : decode cX0_map 12 = .ok (.getfield 32, 3) := dk_180 0 32 (dk_at dksX0_map_0 12 rfl rfl)
theorem dX0_map_15 : decode cX0_map 15 = .ok (.getfield 103, 3) := dk_180 0 103 (dk_at dksX0_map_0 15 rfl rfl)
theorem dX0_map_18 : decode cX0_map 18 = .ok (.if_icmp .ge 52, 3) := dk_162 0 52 (dk_at dksX0_map_0 18 rfl rfl)
theorem dX0_map_21 : decode cX0_map 21 = .ok (.iconst 0, 1) := dk_3 (dk_at dksX0_map_0 21 rfl rfl)
theorem dX0_map_22 : decode cX0_map 22 = .ok (.istore_n 3, 1) := dk_62 (dk_at dksX0_map_0 22 rfl rfl)
theorem dX0_map_23 : decode cX0_map 23 = .ok (.iload_n 3, 1) := dk_29 (dk_at dksX0_map_0 23 rfl rfl)
theorem dX0_map_24 : decode cX0_map 24 = .ok (.aload_n 0, 1) := dk_42 (dk_at dksX0_map_1 0 rfl rfl)
theorem dX0_map_25 : decode cX0_map 25 = .ok (.getfield 32, 3) := dk_180 0 32 (dk_at dksX0_map_1 1 rfl rfl)
theorem dX0_map_28 : decode cX0_map 28 = .ok (.getfield 100, 3) := dk_180 0 100 (dk_at dksX0_map_1 4 rfl rfl)
theorem dX0_map_31 : decode cX0_map 31 = .ok (.if_icmp .ge 26, 3) := dk_162 0 26 (dk_at dksX0_map_1 7 rfl rfl)
theorem dX0_map_34 : decode cX0_map 34 = .ok (.aload_n 1, 1) := dk_43 (dk_at dksX0_map_1 10 rfl rfl)
theorem dX0_map_35 : decode cX0_map 35 = .ok (.aload_n 0, 1) := dk_42 (dk_at dksX0_map_1 11 rfl rfl)
theorem dX0_map_36 : decode cX0_map 36 = .ok (.getfield 32, 3) := dk_180 0 32 (dk_at dksX0_map_1 12 rfl rfl)
theorem dX0_map_39 : decode cX0_map 39 = .ok (.iload_n 3, 1) := dk_29 (dk_at dksX0_map_1 15 rfl rfl)
theorem dX0_map_40 : decode cX0_map 40 = .ok (.iload_n 2, 1) := dk_28 (dk_at dksX0_map_1 16 rfl rfl)
theorem dX0_map_41 : decode cX0_map 41 = .ok (.invokevirtual 268, 3) := dk_182 1 12 (dk_at dksX0_map_1 17 rfl rfl)
theorem dX0_map_44 : decode cX0_map 44 = .ok (.invokestatic 489, 3) := dk_184 1 233 (dk_at dksX0_map_1 20 rfl rfl)
theorem dX0_map_47 : decode cX0_map 47 = .ok (.invokevirtual 182, 3) := dk_182 0 182 (dk_at dksX0_map_2 0 rfl rfl)
theorem dX0_map_50 : decode cX0_map 50 = .ok (.pop, 1) := dk_87 (dk_at dksX0_map_2 3 rfl rfl)
theorem dX0_map_51 : decode cX0_map 51 = .ok (.iinc 3 1, 3) := dk_132 3 1 (dk_at dksX0_map_2 4 rfl rfl)
theorem dX0_map_54 : decode cX0_map 54 = .ok (.goto (-31), 3) := dk_167 255 225 (dk_at dksX0_map_2 7 rfl rfl)
theorem dX0_map_57 : decode cX0_map 57 = .ok (.aload_n 1, 1) := dk_43 (dk_at dksX0_map_2 10 rfl rfl)
theorem dX0_map_58 : decode cX0_map 58 = .ok (.bipush 10, 2) := dk_16 10 (dk_at dksX0_map_2 11 rfl rfl)
theorem dX0_map_60 : decode cX0_map 60 = .ok (.invokevirtual 182, 3) := dk_182 0 182 (dk_at dksX0_map_2 13 rfl rfl)
theorem dX0_map_63 : decode cX0_map 63 = .ok (.pop, 1) := dk_87 (dk_at dksX0_map_2 16 rfl rfl)
theorem dX0_map_64 : decode cX0_map 64 = .ok (.iinc 2 1, 3) := dk_132 2 1 (dk_at dksX0_map_2 17 rfl rfl)
theorem dX0_map_67 : decode cX0_map 67 = .ok (.goto (-57), 3) := dk_167 255 199 (dk_at dksX0_map_2 20 rfl rfl)
theorem dX0_map_70 : decode cX0_map 70 = .ok (.aload_n 1, 1) := dk_43 (dk_at dksX0_map_2 23 rfl rfl)
theorem dX0_map_71 : decode cX0_map 71 = .ok (.areturn, 1) := dk_176 (dk_at dksX0_map_3 0 rfl rfl)
abbrev cX0_sign : ByteArray := prog_1_method_80_code
def yX0_sign : MethodName := ⟨RX0, "sign", "(I)C"⟩
def dkwX0_sign_1 : List UInt8 := [16, 10, 100, 167, 0, 10, 16, 65, 26, 96, 16, 36, 100, 146, 172]
abbrev dktX0_sign_1 : List UInt8 := dkwX0_sign_1 ++ []
def dkwX0_sign_0 : List UInt8 := [26, 16, 10, 162, 0, 10, 16, 48, 26, 96, 167, 0, 26, 26, 16, 36, 162, 0, 13, 16, 97, 26, 96]
abbrev dktX0_sign_0 : List UInt8 := dkwX0_sign_0 ++ dktX0_sign_1
theorem dksX0_sign_0 : cX0_sign.data.toList.drop 0 = dktX0_sign_0 := by decide +kernel
theorem dksX0_sign_1 : cX0_sign.data.toList.drop 23 = dktX0_sign_1 := dk_seg dksX0_sign_0 23 rfl rfl
theorem dX0_sign_0 : decode cX0_sign 0 = .ok (.iload_n 0, 1) := dk_26 (dk_at dksX0_sign_0 0 rfl rfl)
theorem dX0_sign_1 : decode cX0_sign 1 = .ok (.bipush 10, 2) := dk_16 10 (dk_at dksX0_sign_0 1 rfl rfl)
theorem dX0_sign_3 : decode cX0_sign 3 = .ok (.if_icmp .ge 10, 3) := dk_162 0 10 (dk_at dksX0_sign_0 3 rfl rfl)
theorem dX0_sign_6 : decode cX0_sign 6 = .ok (.bipush 48, 2) := dk_16 48 (dk_at dksX0_sign_0 6 rfl rfl)
theorem dX0_sign_8 : decode cX0_sign 8 = .ok (.iload_n 0, 1) := dk_26 (dk_at dksX0_sign_0 8 rfl rfl)
theorem dX0_sign_9 : decode cX0_sign 9 = .ok (.iadd, 1) := dk_96 (dk_at dksX0_sign_0 9 rfl rfl)
theorem dX0_sign_10 : decode cX0_sign 10 = .ok (.goto 26, 3) := dk_167 0 26 (dk_at dksX0_sign_0 10 rfl rfl)
theorem dX0_sign_13 : decode cX0_sign 13 = .ok (.iload_n 0, 1) := dk_26 (dk_at dksX0_sign_0 13 rfl rfl)
theorem dX0_sign_14 : decode cX0_sign 14 = .ok (.bipush 36, 2) := dk_16 36 (dk_at dksX0_sign_0 14 rfl rfl)
theorem dX0_sign_16 : decode cX0_sign 16 = .ok (.if_icmp .ge 13, 3) := dk_162 0 13 (dk_at dksX0_sign_0 16 rfl rfl)
theorem dX0_sign_19 : decode cX0_sign 19 = .ok (.bipush 97, 2) := dk_16 97 (dk_at dksX0_sign_0 19 rfl rfl)
theorem dX0_sign_21 : decode cX0_sign 21 = .ok (.iload_n 0, 1) := dk_26 (dk_at dksX0_sign_0 21 rfl rfl)
theorem dX0_sign_22 : decode cX0_sign 22 = .ok (.iadd, 1) := dk_96 (dk_at dksX0_sign_0 22 rfl rfl)
theorem dX0_sign_23 : decode cX0_sign 23 = .ok (.bipush 10, 2) := dk_16 10 (dk_at dksX0_sign_1 0 rfl rfl)
theorem dX0_sign_25 : decode cX0_sign 25 = .ok (.isub, 1) := dk_100 (dk_at dksX0_sign_1 2 rfl rfl)
theorem dX0_sign_26 : decode cX0_sign 26 = .ok (.goto 10, 3) := dk_167 0 10 (dk_at dksX0_sign_1 3 rfl rfl)
theorem dX0_sign_29 : decode cX0_sign 29 = .ok (.bipush 65, 2) := dk_16 65 (dk_at dksX0_sign_1 6 rfl rfl)
theorem dX0_sign_31 : decode cX0_sign 31 = .ok (.iload_n 0, 1) := dk_26 (dk_at dksX0_sign_1 8 rfl rfl)
theorem dX0_sign_32 : decode cX0_sign 32 = .ok (.iadd, 1) := dk_96 (dk_at dksX0_sign_1 9 rfl rfl)
theorem dX0_sign_33 : decode cX0_sign 33 = .ok (.bipush 36, 2) := dk_16 36 (dk_at dksX0_sign_1 10 rfl rfl)
theorem dX0_sign_35 : decode cX0_sign 35 = .ok (.isub, 1) := dk_100 (dk_at dksX0_sign_1 12 rfl rfl)
theorem dX0_sign_36 : decode cX0_sign 36 = .ok (.i2c, 1) := dk_146 (dk_at dksX0_sign_1 13 rfl rfl)
theorem dX0_sign_37 : decode cX0_sign 37 = .ok (.ireturn, 1) := dk_172 (dk_at dksX0_sign_1 14 rfl rfl)
abbrev cX0_mapByte : ByteArray := prog_1_method_85_code
def yX0_mapByte : MethodName := ⟨RX0, "mapByte", "(I)I"⟩
def dkwX0_mapByte_0 : List UInt8 := [42, 182, 1, 244, 27, 184, 1, 248, 172]
abbrev dktX0_mapByte_0 : List UInt8 := dkwX0_mapByte_0 ++ []
theorem dksX0_mapByte_0 : cX0_mapByte.data.toList.drop 0 = dktX0_mapByte_0 := by decide +kernel
theorem dX0_mapByte_0 : decode cX0_mapByte 0 = .ok (.aload_n 0, 1) := dk_42 (dk_at dksX0_mapByte_0 0 rfl rfl)
theorem dX0_mapByte_1 : decode cX0_mapByte 1 = .ok (.invokevirtual 500, 3) := dk_182 1 244 (dk_at dksX0_mapByte_0 1 rfl rfl)
theorem dX0_mapByte_4 : decode cX0_mapByte 4 = .ok (.iload_n 1, 1) := dk_27 (dk_at dksX0_mapByte_0 4 rfl rfl)
theorem dX0_mapByte_5 : decode cX0_mapByte 5 = .ok (.invokestatic 504, 3) := dk_184 1 248 (dk_at dksX0_mapByte_0 5 rfl rfl)
theorem dX0_mapByte_8 : decode cX0_mapByte 8 = .ok (.ireturn, 1) := dk_172 (dk_at dksX0_mapByte_0 8 rfl rfl)
abbrev cX0_byteOf : ByteArray := prog_1_method_83_code
def yX0_byteOf : MethodName := ⟨RX0, "byteOf", "(Ljava/lang/StringBuilder;I)I"⟩
def dkwX0_byteOf_1 : List UInt8 := [16, 254, 172]
abbrev dktX0_byteOf_1 : List UInt8 := dkwX0_byteOf_1 ++ []
def dkwX0_byteOf_0 : List UInt8 := [27, 156, 0, 7, 2, 167, 0, 21, 27, 42, 182, 1, 242, 162, 0, 11, 42, 27, 182, 1, 243, 167, 0, 5]
abbrev dktX0_byteOf_0 : List UInt8 := dkwX0_byteOf_0 ++ dktX0_byteOf_1
theorem dksX0_byteOf_0 : cX0_byteOf.data.toList.drop 0 = dktX0_byteOf_0 := by decide +kernel
theorem dksX0_byteOf_1 : cX0_byteOf.data.toList.drop 24 = dktX0_byteOf_1 := dk_seg dksX0_byteOf_0 24 rfl rfl
theorem dX0_byteOf_0 : decode cX0_byteOf 0 = .ok (.iload_n 1, 1) := dk_27 (dk_at dksX0_byteOf_0 0 rfl rfl)
theorem dX0_byteOf_1 : decode cX0_byteOf 1 = .ok (.ifCond .ge 7, 3) := dk_156 0 7 (dk_at dksX0_byteOf_0 1 rfl rfl)
theorem dX0_byteOf_4 : decode cX0_byteOf 4 = .ok (.iconst (-1), 1) := dk_2 (dk_at dksX0_byteOf_0 4 rfl rfl)
theorem dX0_byteOf_5 : decode cX0_byteOf 5 = .ok (.goto 21, 3) := dk_167 0 21 (dk_at dksX0_byteOf_0 5 rfl rfl)
theorem dX0_byteOf_8 : decode cX0_byteOf 8 = .ok (.iload_n 1, 1) := dk_27 (dk_at dksX0_byteOf_0 8 rfl rfl)
theorem dX0_byteOf_9 : decode cX0_byteOf 9 = .ok (.aload_n 0, 1) := dk_42 (dk_at dksX0_byteOf_0 9 rfl rfl)
theorem dX0_byteOf_10 : decode cX0_byteOf 10 = .ok (.invokevirtual 498, 3) := dk_182 1 242 (dk_at dksX0_byteOf_0 10 rfl rfl)
theorem dX0_byteOf_13 : decode cX0_byteOf 13 = .ok (.if_icmp .ge 11, 3) := dk_162 0 11 (dk_at dksX0_byteOf_0 13 rfl rfl)
theorem dX0_byteOf_16 : decode cX0_byteOf 16 = .ok (.aload_n 0, 1) := dk_42 (dk_at dksX0_byteOf_0 16 rfl rfl)
theorem dX0_byteOf_17 : decode cX0_byteOf 17 = .ok (.iload_n 1, 1) := dk_27 (dk_at dksX0_byteOf_0 17 rfl rfl)
theorem dX0_byteOf_18 : decode cX0_byteOf 18 = .ok (.invokevirtual 499, 3) := dk_182 1 243 (dk_at dksX0_byteOf_0 18 rfl rfl)
theorem dX0_byteOf_21 : decode cX0_byteOf 21 = .ok (.goto 5, 3) := dk_167 0 5 (dk_at dksX0_byteOf_0 21 rfl rfl)
theorem dX0_byteOf_24 : decode cX0_byteOf 24 = .ok (.bipush (-2), 2) := dk_16 254 (dk_at dksX0_byteOf_1 0 rfl rfl)
theorem dX0_byteOf_26 : decode cX0_byteOf 26 = .ok (.ireturn, 1) := dk_172 (dk_at dksX0_byteOf_1 2 rfl rfl)
abbrev cX0_extractLength : ByteArray := prog_1_method_86_code
def yX0_extractLength : MethodName := ⟨RX0, "extractLength", "(I)I"⟩
def dkwX0_extractLength_0 : List UInt8 := [42, 27, 182, 0, 110, 153, 0, 14, 42, 27, 182, 1, 252, 182, 1, 242, 167, 0, 4, 2, 172]
abbrev dktX0_extractLength_0 : List UInt8 := dkwX0_extractLength_0 ++ []
theorem dksX0_extractLength_0 : cX0_extractLength.data.toList.drop 0 = dktX0_extractLength_0 := by decide +kernel
theorem dX0_extractLength_0 : decode cX0_extractLength 0 = .ok (.aload_n 0, 1) := dk_42 (dk_at dksX0_extractLength_0 0 rfl rfl)
theorem dX0_extractLength_1 : decode cX0_extractLength 1 = .ok (.iload_n 1, 1) := dk_27 (dk_at dksX0_extractLength_0 1 rfl rfl)
theorem dX0_extractLength_2 : decode cX0_extractLength 2 = .ok (.invokevirtual 110, 3) := dk_182 0 110 (dk_at dksX0_extractLength_0 2 rfl rfl)
theorem dX0_extractLength_5 : decode cX0_extractLength 5 = .ok (.ifCond .eq 14, 3) := dk_153 0 14 (dk_at dksX0_extractLength_0 5 rfl rfl)
theorem dX0_extractLength_8 : decode cX0_extractLength 8 = .ok (.aload_n 0, 1) := dk_42 (dk_at dksX0_extractLength_0 8 rfl rfl)
theorem dX0_extractLength_9 : decode cX0_extractLength 9 = .ok (.iload_n 1, 1) := dk_27 (dk_at dksX0_extractLength_0 9 rfl rfl)
theorem dX0_extractLength_10 : decode cX0_extractLength 10 = .ok (.invokevirtual 508, 3) := dk_182 1 252 (dk_at dksX0_extractLength_0 10 rfl rfl)
theorem dX0_extractLength_13 : decode cX0_extractLength 13 = .ok (.invokevirtual 498, 3) := dk_182 1 242 (dk_at dksX0_extractLength_0 13 rfl rfl)
theorem dX0_extractLength_16 : decode cX0_extractLength 16 = .ok (.goto 4, 3) := dk_167 0 4 (dk_at dksX0_extractLength_0 16 rfl rfl)
theorem dX0_extractLength_19 : decode cX0_extractLength 19 = .ok (.iconst (-1), 1) := dk_2 (dk_at dksX0_extractLength_0 19 rfl rfl)
theorem dX0_extractLength_20 : decode cX0_extractLength 20 = .ok (.ireturn, 1) := dk_172 (dk_at dksX0_extractLength_0 20 rfl rfl)
abbrev cX0_extract : ByteArray := prog_1_method_82_code
def yX0_extract : MethodName := ⟨RX0, "extract", "(I)Ljava/lang/StringBuilder;"⟩
def dkwX0_extract_10 : List UInt8 := [182, 1, 239, 16, 10, 182, 0, 182, 87, 167, 255, 122, 44, 176]
abbrev dktX0_extract_10 : List UInt8 := dkwX0_extract_10 ++ []
def dkwX0_extract_9 : List UInt8 := [16, 61, 182, 0, 182, 25, 7, 180, 1, 181, 182, 1, 239, 16, 44, 182, 0, 182, 25, 7, 180, 1, 182]
abbrev dktX0_extract_9 : List UInt8 := dkwX0_extract_9 ++ dktX0_extract_10
def dkwX0_extract_8 : List UInt8 := [182, 0, 182, 87, 167, 0, 51, 25, 5, 193, 1, 18, 153, 0, 43, 25, 5, 192, 1, 18, 58, 7, 44]
abbrev dktX0_extract_8 : List UInt8 := dkwX0_extract_8 ++ dktX0_extract_9
def dkwX0_extract_7 : List UInt8 := [180, 0, 32, 180, 0, 7, 25, 6, 180, 1, 172, 182, 1, 164, 192, 0, 132, 182, 1, 236, 16, 10]
abbrev dktX0_extract_7 : List UInt8 := dkwX0_extract_7 ++ dktX0_extract_8
def dkwX0_extract_6 : List UInt8 := [58, 6, 44, 16, 36, 182, 0, 182, 25, 6, 180, 1, 31, 182, 1, 239, 16, 32, 182, 0, 182, 42]
abbrev dktX0_extract_6 : List UInt8 := dkwX0_extract_6 ++ dktX0_extract_7
def dkwX0_extract_5 : List UInt8 := [185, 1, 115, 1, 0, 192, 1, 35, 58, 5, 25, 5, 193, 0, 254, 153, 0, 59, 25, 5, 192, 0, 254]
abbrev dktX0_extract_5 : List UInt8 := dkwX0_extract_5 ++ dktX0_extract_6
def dkwX0_extract_4 : List UInt8 := [180, 0, 32, 27, 183, 1, 103, 182, 1, 106, 58, 4, 25, 4, 185, 1, 110, 1, 0, 153, 0, 130, 25, 4]
abbrev dktX0_extract_4 : List UInt8 := dkwX0_extract_4 ++ dktX0_extract_5
def dkwX0_extract_3 : List UInt8 := [21, 4, 46, 182, 1, 239, 16, 10, 182, 0, 182, 87, 132, 4, 1, 167, 255, 194, 187, 1, 101, 89, 42]
abbrev dktX0_extract_3 : List UInt8 := dkwX0_extract_3 ++ dktX0_extract_4
def dkwX0_extract_2 : List UInt8 := [180, 0, 32, 180, 0, 7, 21, 4, 182, 1, 164, 192, 0, 132, 182, 1, 236, 16, 32, 182, 0, 182, 45]
abbrev dktX0_extract_2 : List UInt8 := dkwX0_extract_2 ++ dktX0_extract_3
def dkwX0_extract_1 : List UInt8 := [21, 4, 42, 180, 0, 32, 180, 0, 7, 182, 0, 92, 162, 0, 53, 45, 21, 4, 46, 158, 0, 40, 44, 42]
abbrev dktX0_extract_1 : List UInt8 := dkwX0_extract_1 ++ dktX0_extract_2
def dkwX0_extract_0 : List UInt8 := [187, 0, 179, 89, 183, 0, 181, 77, 42, 180, 0, 32, 27, 182, 0, 238, 180, 0, 242, 78, 3, 54, 4]
abbrev dktX0_extract_0 : List UInt8 := dkwX0_extract_0 ++ dktX0_extract_1
theorem dksX0_extract_0 : cX0_extract.data.toList.drop 0 = dktX0_extract_0 := by decide +kernel
theorem dksX0_extract_1 : cX0_extract.data.toList.drop 23 = dktX0_extract_1 := dk_seg dksX0_extract_0 23 rfl rfl
theorem dksX0_extract_2 : cX0_extract.data.toList.drop 47 = dktX0_extract_2 := dk_seg dksX0_extract_1 24 rfl rfl
theorem dksX0_extract_3 : cX0_extract.data.toList.drop 70 = dktX0_extract_3 := dk_seg dksX0_extract_2 23 rfl rfl
theorem dksX0_extract_4 : cX0_extract.data.toList.drop 93 = dktX0_extract_4 := dk_seg dksX0_extract_3 23 rfl rfl
theorem dksX0_extract_5 : cX0_extract.data.toList.drop 117 = dktX0_extract_5 := dk_seg dksX0_extract_4 24 rfl rfl
theorem dksX0_extract_6 : cX0_extract.data.toList.drop 140 = dktX0_extract_6 := dk_seg dksX0_extract_5 23 rfl rfl
theorem dksX0_extract_7 : cX0_extract.data.toList.drop 162 = dktX0_extract_7 := dk_seg dksX0_extract_6 22 rfl rfl
theorem dksX0_extract_8 : cX0_extract.data.toList.drop 184 = dktX0_extract_8 := dk_seg dksX0_extract_7 22 rfl rfl
theorem dksX0_extract_9 : cX0_extract.data.toList.drop 207 = dktX0_extract_9 := dk_seg dksX0_extract_8 23 rfl rfl
theorem dksX0_extract_10 : cX0_extract.data.toList.drop 230 = dktX0_extract_10 := dk_seg dksX0_extract_9 23 rfl rfl
theorem dX0_extract_0 : decode cX0_extract 0 = .ok (.new 179, 3) := dk_187 0 179 (dk_at dksX0_extract_0 0 rfl rfl)
theorem dX0_extract_3 : decode cX0_extract 3 = .ok (.dup, 1) := dk_89 (dk_at dksX0_extract_0 3 rfl rfl)
theorem dX0_extract_4 : decode cX0_extract 4 = .ok (.invokespecial 181, 3) := dk_183 0 181 (dk_at dksX0_extract_0 4 rfl rfl)
theorem dX0_extract_7 : decode cX0_extract 7 = .ok (.astore_n 2, 1) := dk_77 (dk_at dksX0_extract_0 7 rfl rfl)
theorem dX0_extract_8 : decode cX0_extract 8 = .ok (.aload_n 0, 1) := dk_42 (dk_at dksX0_extract_0 8 rfl rfl)
theorem dX0_extract_9 : decode cX0_extract 9 = .ok (.getfield 32, 3) := dk_180 0 32 (dk_at dksX0_extract_0 9 rfl rfl)
theorem dX0_extract_12 : decode cX0_extract 12 = .ok (.iload_n 1, 1) := dk_27 (dk_at dksX0_extract_0 12 rfl rfl)
theorem dX0_extract_13 : decode cX0_extract 13 = .ok (.invokevirtual 238, 3) := dk_182 0 238 (dk_at dksX0_extract_0 13 rfl rfl)
theorem dX0_extract_16 : decode cX0_extract 16 = .ok (.getfield 242, 3) := dk_180 0 242 (dk_at dksX0_extract_0 16 rfl rfl)
theorem dX0_extract_19 : decode cX0_extract 19 = .ok (.astore_n 3, 1) := dk_78 (dk_at dksX0_extract_0 19 rfl rfl)
theorem dX0_extract_20 : decode cX0_extract 20 = .ok (.iconst 0, 1) := dk_3 (dk_at dksX0_extract_0 20 rfl rfl)
theorem dX0_extract_21 : decode cX0_extract 21 = .ok (.istore 4, 2) := dk_54 4 (dk_at dksX0_extract_0 21 rfl rfl)
theorem dX0_extract_23 : decode cX0_extract 23 = .ok (.iload 4, 2) := dk_21 4 (dk_at dksX0_extract_1 0 rfl rfl)
theorem dX0_extract_25 : decode cX0_extract 25 = .ok (.aload_n 0, 1) := dk_42 (dk_at dksX0_extract_1 2 rfl rfl)
theorem dX0_extract_26 : decode cX0_extract 26 = .ok (.getfield 32, 3) := dk_180 0 32 (dk_at dksX0_extract_1 3 rfl rfl)
theorem dX0_extract_29 : decode cX0_extract 29 = .ok (.getfield 7, 3) := dk_180 0 7 (dk_at dksX0_extract_1 6 rfl rfl)
theorem dX0_extract_32 : decode cX0_extract 32 = .ok (.invokevirtual 92, 3) := dk_182 0 92 (dk_at dksX0_extract_1 9 rfl rfl)
theorem dX0_extract_35 : decode cX0_extract 35 = .ok (.if_icmp .ge 53, 3) := dk_162 0 53 (dk_at dksX0_extract_1 12 rfl rfl)
theorem dX0_extract_38 : decode cX0_extract 38 = .ok (.aload_n 3, 1) := dk_45 (dk_at dksX0_extract_1 15 rfl rfl)
theorem dX0_extract_39 : decode cX0_extract 39 = .ok (.iload 4, 2) := dk_21 4 (dk_at dksX0_extract_1 16 rfl rfl)
theorem dX0_extract_41 : decode cX0_extract 41 = .ok (.iaload, 1) := dk_46 (dk_at dksX0_extract_1 18 rfl rfl)
theorem dX0_extract_42 : decode cX0_extract 42 = .ok (.ifCond .le 40, 3) := dk_158 0 40 (dk_at dksX0_extract_1 19 rfl rfl)
theorem dX0_extract_45 : decode cX0_extract 45 = .ok (.aload_n 2, 1) := dk_44 (dk_at dksX0_extract_1 22 rfl rfl)
theorem dX0_extract_46 : decode cX0_extract 46 = .ok (.aload_n 0, 1) := dk_42 (dk_at dksX0_extract_1 23 rfl rfl)
theorem dX0_extract_47 : decode cX0_extract 47 = .ok (.getfield 32, 3) := dk_180 0 32 (dk_at dksX0_extract_2 0 rfl rfl)
theorem dX0_extract_50 : decode cX0_extract 50 = .ok (.getfield 7, 3) := dk_180 0 7 (dk_at dksX0_extract_2 3 rfl rfl)
theorem dX0_extract_53 : decode cX0_extract 53 = .ok (.iload 4, 2) := dk_21 4 (dk_at dksX0_extract_2 6 rfl rfl)
theorem dX0_extract_55 : decode cX0_extract 55 = .ok (.invokevirtual 420, 3) := dk_182 1 164 (dk_at dksX0_extract_2 8 rfl rfl)
theorem dX0_extract_58 : decode cX0_extract 58 = .ok (.checkcast 132, 3) := dk_192 0 132 (dk_at dksX0_extract_2 11 rfl rfl)
theorem dX0_extract_61 : decode cX0_extract 61 = .ok (.invokevirtual 492, 3) := dk_182 1 236 (dk_at dksX0_extract_2 14 rfl rfl)
theorem dX0_extract_64 : decode cX0_extract 64 = .ok (.bipush 32, 2) := dk_16 32 (dk_at dksX0_extract_2 17 rfl rfl)
theorem dX0_extract_66 : decode cX0_extract 66 = .ok (.invokevirtual 182, 3) := dk_182 0 182 (dk_at dksX0_extract_2 19 rfl rfl)
theorem dX0_extract_69 : decode cX0_extract 69 = .ok (.aload_n 3, 1) := dk_45 (dk_at dksX0_extract_2 22 rfl rfl)
theorem dX0_extract_70 : decode cX0_extract 70 = .ok (.iload 4, 2) := dk_21 4 (dk_at dksX0_extract_3 0 rfl rfl)
theorem dX0_extract_72 : decode cX0_extract 72 = .ok (.iaload, 1) := dk_46 (dk_at dksX0_extract_3 2 rfl rfl)
theorem dX0_extract_73 : decode cX0_extract 73 = .ok (.invokevirtual 495, 3) := dk_182 1 239 (dk_at dksX0_extract_3 3 rfl rfl)
theorem dX0_extract_76 : decode cX0_extract 76 = .ok (.bipush 10, 2) := dk_16 10 (dk_at dksX0_extract_3 6 rfl rfl)
theorem dX0_extract_78 : decode cX0_extract 78 = .ok (.invokevirtual 182, 3) := dk_182 0 182 (dk_at dksX0_extract_3 8 rfl rfl)
theorem dX0_extract_81 : decode cX0_extract 81 = .ok (.pop, 1) := dk_87 (dk_at dksX0_extract_3 11 rfl rfl)
theorem dX0_extract_82 : decode cX0_extract 82 = .ok (.iinc 4 1, 3) := dk_132 4 1 (dk_at dksX0_extract_3 12 rfl rfl)
theorem dX0_extract_85 : decode cX0_extract 85 = .ok (.goto (-62), 3) := dk_167 255 194 (dk_at dksX0_extract_3 15 rfl rfl)
theorem dX0_extract_88 : decode cX0_extract 88 = .ok (.new 357, 3) := dk_187 1 101 (dk_at dksX0_extract_3 18 rfl rfl)
theorem dX0_extract_91 : decode cX0_extract 91 = .ok (.dup, 1) := dk_89 (dk_at dksX0_extract_3 21 rfl rfl)
theorem dX0_extract_92 : decode cX0_extract 92 = .ok (.aload_n 0, 1) := dk_42 (dk_at dksX0_extract_3 22 rfl rfl)
theorem dX0_extract_93 : decode cX0_extract 93 = .ok (.getfield 32, 3) := dk_180 0 32 (dk_at dksX0_extract_4 0 rfl rfl)
theorem dX0_extract_96 : decode cX0_extract 96 = .ok (.iload_n 1, 1) := dk_27 (dk_at dksX0_extract_4 3 rfl rfl)
theorem dX0_extract_97 : decode cX0_extract 97 = .ok (.invokespecial 359, 3) := dk_183 1 103 (dk_at dksX0_extract_4 4 rfl rfl)
theorem dX0_extract_100 : decode cX0_extract 100 = .ok (.invokevirtual 362, 3) := dk_182 1 106 (dk_at dksX0_extract_4 7 rfl rfl)
theorem dX0_extract_103 : decode cX0_extract 103 = .ok (.astore 4, 2) := dk_58 4 (dk_at dksX0_extract_4 10 rfl rfl)
theorem dX0_extract_105 : decode cX0_extract 105 = .ok (.aload 4, 2) := dk_25 4 (dk_at dksX0_extract_4 12 rfl rfl)
theorem dX0_extract_107 : decode cX0_extract 107 = .ok (.invokeinterface 366 1, 5) := by decide +kernel
theorem dX0_extract_112 : decode cX0_extract 112 = .ok (.ifCond .eq 130, 3) := dk_153 0 130 (dk_at dksX0_extract_4 19 rfl rfl)
theorem dX0_extract_115 : decode cX0_extract 115 = .ok (.aload 4, 2) := dk_25 4 (dk_at dksX0_extract_4 22 rfl rfl)
theorem dX0_extract_117 : decode cX0_extract 117 = .ok (.invokeinterface 371 1, 5) := by decide +kernel
theorem dX0_extract_122 : decode cX0_extract 122 = .ok (.checkcast 291, 3) := dk_192 1 35 (dk_at dksX0_extract_5 5 rfl rfl)
theorem dX0_extract_125 : decode cX0_extract 125 = .ok (.astore 5, 2) := dk_58 5 (dk_at dksX0_extract_5 8 rfl rfl)
theorem dX0_extract_127 : decode cX0_extract 127 = .ok (.aload 5, 2) := dk_25 5 (dk_at dksX0_extract_5 10 rfl rfl)
theorem dX0_extract_129 : decode cX0_extract 129 = .ok (.instanceof 254, 3) := dk_193 0 254 (dk_at dksX0_extract_5 12 rfl rfl)
theorem dX0_extract_132 : decode cX0_extract 132 = .ok (.ifCond .eq 59, 3) := dk_153 0 59 (dk_at dksX0_extract_5 15 rfl rfl)
theorem dX0_extract_135 : decode cX0_extract 135 = .ok (.aload 5, 2) := dk_25 5 (dk_at dksX0_extract_5 18 rfl rfl)
theorem dX0_extract_137 : decode cX0_extract 137 = .ok (.checkcast 254, 3) := dk_192 0 254 (dk_at dksX0_extract_5 20 rfl rfl)
theorem dX0_extract_140 : decode cX0_extract 140 = .ok (.astore 6, 2) := dk_58 6 (dk_at dksX0_extract_6 0 rfl rfl)
theorem dX0_extract_142 : decode cX0_extract 142 = .ok (.aload_n 2, 1) := dk_44 (dk_at dksX0_extract_6 2 rfl rfl)
theorem dX0_extract_143 : decode cX0_extract 143 = .ok (.bipush 36, 2) := dk_16 36 (dk_at dksX0_extract_6 3 rfl rfl)
theorem dX0_extract_145 : decode cX0_extract 145 = .ok (.invokevirtual 182, 3) := dk_182 0 182 (dk_at dksX0_extract_6 5 rfl rfl)
theorem dX0_extract_148 : decode cX0_extract 148 = .ok (.aload 6, 2) := dk_25 6 (dk_at dksX0_extract_6 8 rfl rfl)
theorem dX0_extract_150 : decode cX0_extract 150 = .ok (.getfield 287, 3) := dk_180 1 31 (dk_at dksX0_extract_6 10 rfl rfl)
theorem dX0_extract_153 : decode cX0_extract 153 = .ok (.invokevirtual 495, 3) := dk_182 1 239 (dk_at dksX0_extract_6 13 rfl rfl)
theorem dX0_extract_156 : decode cX0_extract 156 = .ok (.bipush 32, 2) := dk_16 32 (dk_at dksX0_extract_6 16 rfl rfl)
theorem dX0_extract_158 : decode cX0_extract 158 = .ok (.invokevirtual 182, 3) := dk_182 0 182 (dk_at dksX0_extract_6 18 rfl rfl)
theorem dX0_extract_161 : decode cX0_extract 161 = .ok (.aload_n 0, 1) := dk_42 (dk_at dksX0_extract_6 21 rfl rfl)
theorem dX0_extract_162 : decode cX0_extract 162 = .ok (.getfield 32, 3) := dk_180 0 32 (dk_at dksX0_extract_7 0 rfl rfl)
theorem dX0_extract_165 : decode cX0_extract 165 = .ok (.getfield 7, 3) := dk_180 0 7 (dk_at dksX0_extract_7 3 rfl rfl)
theorem dX0_extract_168 : decode cX0_extract 168 = .ok (.aload 6, 2) := dk_25 6 (dk_at dksX0_extract_7 6 rfl rfl)
theorem dX0_extract_170 : decode cX0_extract 170 = .ok (.getfield 428, 3) := dk_180 1 172 (dk_at dksX0_extract_7 8 rfl rfl)
theorem dX0_extract_173 : decode cX0_extract 173 = .ok (.invokevirtual 420, 3) := dk_182 1 164 (dk_at dksX0_extract_7 11 rfl rfl)
theorem dX0_extract_176 : decode cX0_extract 176 = .ok (.checkcast 132, 3) := dk_192 0 132 (dk_at dksX0_extract_7 14 rfl rfl)
theorem dX0_extract_179 : decode cX0_extract 179 = .ok (.invokevirtual 492, 3) := dk_182 1 236 (dk_at dksX0_extract_7 17 rfl rfl)
theorem dX0_extract_182 : decode cX0_extract 182 = .ok (.bipush 10, 2) := dk_16 10 (dk_at dksX0_extract_7 20 rfl rfl)
theorem dX0_extract_184 : decode cX0_extract 184 = .ok (.invokevirtual 182, 3) := dk_182 0 182 (dk_at dksX0_extract_8 0 rfl rfl)
theorem dX0_extract_187 : decode cX0_extract 187 = .ok (.pop, 1) := dk_87 (dk_at dksX0_extract_8 3 rfl rfl)
theorem dX0_extract_188 : decode cX0_extract 188 = .ok (.goto 51, 3) := dk_167 0 51 (dk_at dksX0_extract_8 4 rfl rfl)
theorem dX0_extract_191 : decode cX0_extract 191 = .ok (.aload 5, 2) := dk_25 5 (dk_at dksX0_extract_8 7 rfl rfl)
theorem dX0_extract_193 : decode cX0_extract 193 = .ok (.instanceof 274, 3) := dk_193 1 18 (dk_at dksX0_extract_8 9 rfl rfl)
theorem dX0_extract_196 : decode cX0_extract 196 = .ok (.ifCond .eq 43, 3) := dk_153 0 43 (dk_at dksX0_extract_8 12 rfl rfl)
theorem dX0_extract_199 : decode cX0_extract 199 = .ok (.aload 5, 2) := dk_25 5 (dk_at dksX0_extract_8 15 rfl rfl)
theorem dX0_extract_201 : decode cX0_extract 201 = .ok (.checkcast 274, 3) := dk_192 1 18 (dk_at dksX0_extract_8 17 rfl rfl)
theorem dX0_extract_204 : decode cX0_extract 204 = .ok (.astore 7, 2) := dk_58 7 (dk_at dksX0_extract_8 20 rfl rfl)
theorem dX0_extract_206 : decode cX0_extract 206 = .ok (.aload_n 2, 1) := dk_44 (dk_at dksX0_extract_8 22 rfl rfl)
theorem dX0_extract_207 : decode cX0_extract 207 = .ok (.bipush 61, 2) := dk_16 61 (dk_at dksX0_extract_9 0 rfl rfl)
theorem dX0_extract_209 : decode cX0_extract 209 = .ok (.invokevirtual 182, 3) := dk_182 0 182 (dk_at dksX0_extract_9 2 rfl rfl)
theorem dX0_extract_212 : decode cX0_extract 212 = .ok (.aload 7, 2) := dk_25 7 (dk_at dksX0_extract_9 5 rfl rfl)
theorem dX0_extract_214 : decode cX0_extract 214 = .ok (.getfield 437, 3) := dk_180 1 181 (dk_at dksX0_extract_9 7 rfl rfl)
theorem dX0_extract_217 : decode cX0_extract 217 = .ok (.invokevirtual 495, 3) := dk_182 1 239 (dk_at dksX0_extract_9 10 rfl rfl)
theorem dX0_extract_220 : decode cX0_extract 220 = .ok (.bipush 44, 2) := dk_16 44 (dk_at dksX0_extract_9 13 rfl rfl)
theorem dX0_extract_222 : decode cX0_extract 222 = .ok (.invokevirtual 182, 3) := dk_182 0 182 (dk_at dksX0_extract_9 15 rfl rfl)
theorem dX0_extract_225 : decode cX0_extract 225 = .ok (.aload 7, 2) := dk_25 7 (dk_at dksX0_extract_9 18 rfl rfl)
theorem dX0_extract_227 : decode cX0_extract 227 = .ok (.getfield 438, 3) := dk_180 1 182 (dk_at dksX0_extract_9 20 rfl rfl)
theorem dX0_extract_230 : decode cX0_extract 230 = .ok (.invokevirtual 495, 3) := dk_182 1 239 (dk_at dksX0_extract_10 0 rfl rfl)
theorem dX0_extract_233 : decode cX0_extract 233 = .ok (.bipush 10, 2) := dk_16 10 (dk_at dksX0_extract_10 3 rfl rfl)
theorem dX0_extract_235 : decode cX0_extract 235 = .ok (.invokevirtual 182, 3) := dk_182 0 182 (dk_at dksX0_extract_10 5 rfl rfl)
theorem dX0_extract_238 : decode cX0_extract 238 = .ok (.pop, 1) := dk_87 (dk_at dksX0_extract_10 8 rfl rfl)
theorem dX0_extract_239 : decode cX0_extract 239 = .ok (.goto (-134), 3) := dk_167 255 122 (dk_at dksX0_extract_10 9 rfl rfl)
theorem dX0_extract_242 : decode cX0_extract 242 = .ok (.aload_n 2, 1) := dk_44 (dk_at dksX0_extract_10 12 rfl rfl)
theorem dX0_extract_243 : decode cX0_extract 243 = .ok (.areturn, 1) := dk_176 (dk_at dksX0_extract_10 13 rfl rfl)
abbrev cX0_extractByte : ByteArray := prog_1_method_87_code
def yX0_extractByte : MethodName := ⟨RX0, "extractByte", "(II)I"⟩
def dkwX0_extractByte_0 : List UInt8 := [42, 27, 182, 0, 110, 153, 0, 15, 42, 27, 182, 1, 252, 28, 184, 1, 248, 167, 0, 4, 2, 172]
abbrev dktX0_extractByte_0 : List UInt8 := dkwX0_extractByte_0 ++ []
theorem dksX0_extractByte_0 : cX0_extractByte.data.toList.drop 0 = dktX0_extractByte_0 := by decide +kernel
theorem dX0_extractByte_0 : decode cX0_extractByte 0 = .ok (.aload_n 0, 1) := dk_42 (dk_at dksX0_extractByte_0 0 rfl rfl)
theorem dX0_extractByte_1 : decode cX0_extractByte 1 = .ok (.iload_n 1, 1) := dk_27 (dk_at dksX0_extractByte_0 1 rfl rfl)
theorem dX0_extractByte_2 : decode cX0_extractByte 2 = .ok (.invokevirtual 110, 3) := dk_182 0 110 (dk_at dksX0_extractByte_0 2 rfl rfl)
theorem dX0_extractByte_5 : decode cX0_extractByte 5 = .ok (.ifCond .eq 15, 3) := dk_153 0 15 (dk_at dksX0_extractByte_0 5 rfl rfl)
theorem dX0_extractByte_8 : decode cX0_extractByte 8 = .ok (.aload_n 0, 1) := dk_42 (dk_at dksX0_extractByte_0 8 rfl rfl)
theorem dX0_extractByte_9 : decode cX0_extractByte 9 = .ok (.iload_n 1, 1) := dk_27 (dk_at dksX0_extractByte_0 9 rfl rfl)
theorem dX0_extractByte_10 : decode cX0_extractByte 10 = .ok (.invokevirtual 508, 3) := dk_182 1 252 (dk_at dksX0_extractByte_0 10 rfl rfl)
theorem dX0_extractByte_13 : decode cX0_extractByte 13 = .ok (.iload_n 2, 1) := dk_28 (dk_at dksX0_extractByte_0 13 rfl rfl)
theorem dX0_extractByte_14 : decode cX0_extractByte 14 = .ok (.invokestatic 504, 3) := dk_184 1 248 (dk_at dksX0_extractByte_0 14 rfl rfl)
theorem dX0_extractByte_17 : decode cX0_extractByte 17 = .ok (.goto 4, 3) := dk_167 0 4 (dk_at dksX0_extractByte_0 17 rfl rfl)
theorem dX0_extractByte_20 : decode cX0_extractByte 20 = .ok (.iconst (-1), 1) := dk_2 (dk_at dksX0_extractByte_0 20 rfl rfl)
theorem dX0_extractByte_21 : decode cX0_extractByte 21 = .ok (.ireturn, 1) := dk_172 (dk_at dksX0_extractByte_0 21 rfl rfl)
theorem q102 : (Jvm.Cond.initialized "LandFolio") ∈ lw_all := lw_g (lw_at lw_m1 1 rfl) rfl
theorem q141 : (Jvm.Cond.instantiable "LandFolio" (7 : Nat)) ∈ lw_all := lw_g (lw_at lw_m1 40 rfl) rfl
theorem q143 : (Jvm.Cond.instanceMethod ({ cls := "LandFolio", name := "<init>", desc := "()V" } : Jvm.MethodName)) ∈ lw_all := lw_g (lw_at lw_m1 42 rfl) rfl
theorem q144 : (Jvm.Cond.code ({ cls := "LandFolio", name := "<init>", desc := "()V" } : Jvm.MethodName) prog_1_method_3_code (1 : Nat) (Option.none : Option Jvm.ClassFile.FieldType)) ∈ lw_all := lw_g (lw_at lw_m1 43 rfl) rfl
theorem q145 : (Jvm.Cond.methodLink "LandFolio" (23 : Nat) ({ cls := "java/lang/Object", name := "<init>", desc := "()V" } : Jvm.MethodName)) ∈ lw_all := lw_g (lw_at lw_m1 44 rfl) rfl
theorem q148 : (Jvm.Cond.methodLink "LandFolio" (26 : Nat) ({ cls := "LandFolio", name := "first", desc := "()LLandFolio$Folio;" } : Jvm.MethodName)) ∈ lw_all := lw_g (lw_at lw_m1 47 rfl) rfl
theorem q149 : (Jvm.Cond.static ({ cls := "LandFolio", name := "first", desc := "()LLandFolio$Folio;" } : Jvm.MethodName)) ∈ lw_all := lw_g (lw_at lw_m1 48 rfl) rfl
theorem q150 : (Jvm.Cond.code ({ cls := "LandFolio", name := "first", desc := "()LLandFolio$Folio;" } : Jvm.MethodName) prog_1_method_2_code (1 : Nat) (Option.some (Jvm.ClassFile.FieldType.object "LandFolio$Folio"))) ∈ lw_all := lw_g (lw_at lw_m1 49 rfl) rfl
theorem q151 : (Jvm.Cond.classLink "LandFolio" (1 : Nat) "LandFolio$Folio") ∈ lw_all := lw_g (lw_at lw_m1 50 rfl) rfl
theorem q153 : (Jvm.Cond.methodLinkNest "LandFolio" (3 : Nat) ({ cls := "LandFolio$Folio", name := "<init>", desc := "()V" } : Jvm.MethodName) "LandFolio") ∈ lw_tbl := lw_at lw_m1 52 rfl
theorem q184 : (Jvm.Cond.fieldLinkNest "LandFolio" (100 : Nat) "LandFolio$Folio" "wide" "I" "LandFolio") ∈ lw_tbl := lw_at lw_m1 83 rfl
theorem q186 : (Jvm.Cond.fieldLinkNest "LandFolio" (103 : Nat) "LandFolio$Folio" "high" "I" "LandFolio") ∈ lw_tbl := lw_at lw_m1 85 rfl
theorem q188 : (Jvm.Cond.fieldLinkNest "LandFolio" (325 : Nat) "LandFolio$Folio" "price" "I" "LandFolio") ∈ lw_tbl := lw_at lw_m1 87 rfl
theorem q190 : (Jvm.Cond.fieldLinkNest "LandFolio" (256 : Nat) "LandFolio$Folio" "day" "I" "LandFolio") ∈ lw_tbl := lw_at lw_m1 89 rfl
theorem q192 : (Jvm.Cond.fieldLinkNest "LandFolio" (7 : Nat) "LandFolio$Folio" "owners" "Ljava/util/ArrayList;" "LandFolio") ∈ lw_tbl := lw_at lw_m1 91 rfl
theorem q195 : (Jvm.Cond.fieldLinkNest "LandFolio" (89 : Nat) "LandFolio$Folio" "parcels" "Ljava/util/ArrayList;" "LandFolio") ∈ lw_tbl := lw_at lw_m1 94 rfl
theorem q198 : (Jvm.Cond.fieldLinkNest "LandFolio" (227 : Nat) "LandFolio$Folio" "deeds" "Ljava/util/ArrayList;" "LandFolio") ∈ lw_tbl := lw_at lw_m1 97 rfl
theorem q201 : (Jvm.Cond.fieldLinkNest "LandFolio" (97 : Nat) "LandFolio$Folio" "burdens" "Ljava/util/ArrayList;" "LandFolio") ∈ lw_tbl := lw_at lw_m1 100 rfl
theorem q204 : (Jvm.Cond.fieldLinkNest "LandFolio" (354 : Nat) "LandFolio$Folio" "log" "Ljava/util/ArrayList;" "LandFolio") ∈ lw_tbl := lw_at lw_m1 103 rfl
theorem q224 : (Jvm.Cond.stringRef "LandFolio" (11 : Nat) "crown") ∈ lw_tbl := lw_at lw_m1 123 rfl
theorem q225 : (Jvm.Cond.methodLink "LandFolio" (13 : Nat) ({ cls := "java/util/ArrayList", name := "add", desc := "(Ljava/lang/Object;)Z" } : Jvm.MethodName)) ∈ lw_all := lw_g (lw_at lw_m1 124 rfl) rfl
theorem q257 : (Jvm.Cond.selects "LandFolio" ({ cls := "java/lang/Object", name := "getClass", desc := "()Ljava/lang/Class;" } : Jvm.MethodName) ({ cls := "java/lang/Object", name := "getClass", desc := "()Ljava/lang/Class;" } : Jvm.MethodName)) ∈ lw_all := lw_g (lw_at lw_m1 156 rfl) rfl
theorem q296 : (Jvm.Cond.methodLink "LandFolio" (19 : Nat) ({ cls := "LandFolio$Folio", name := "begins", desc := "(III)V" } : Jvm.MethodName)) ∈ lw_all := lw_g (lw_at lw_m1 195 rfl) rfl
theorem q309 : (Jvm.Cond.fieldLinkNest "LandFolio" (374 : Nat) "LandFolio$Parcel" "x" "I" "LandFolio") ∈ lw_tbl := lw_at lw_m1 208 rfl
theorem q312 : (Jvm.Cond.fieldLinkNest "LandFolio" (377 : Nat) "LandFolio$Parcel" "y" "I" "LandFolio") ∈ lw_tbl := lw_at lw_m1 211 rfl
theorem q314 : (Jvm.Cond.fieldLinkNest "LandFolio" (109 : Nat) "LandFolio$Parcel" "wide" "I" "LandFolio") ∈ lw_tbl := lw_at lw_m1 213 rfl
theorem q318 : (Jvm.Cond.fieldLinkNest "LandFolio" (106 : Nat) "LandFolio$Parcel" "high" "I" "LandFolio") ∈ lw_tbl := lw_at lw_m1 217 rfl
theorem q321 : (Jvm.Cond.fieldLinkNest "LandFolio" (383 : Nat) "LandFolio$Parcel" "came" "I" "LandFolio") ∈ lw_tbl := lw_at lw_m1 220 rfl
theorem q323 : (Jvm.Cond.fieldLinkNest "LandFolio" (404 : Nat) "LandFolio$Parcel" "parent" "I" "LandFolio") ∈ lw_tbl := lw_at lw_m1 222 rfl
theorem q325 : (Jvm.Cond.fieldLinkNest "LandFolio" (407 : Nat) "LandFolio$Parcel" "second" "I" "LandFolio") ∈ lw_tbl := lw_at lw_m1 224 rfl
theorem q328 : (Jvm.Cond.fieldLinkNest "LandFolio" (386 : Nat) "LandFolio$Parcel" "went" "I" "LandFolio") ∈ lw_tbl := lw_at lw_m1 227 rfl
theorem q332 : (Jvm.Cond.fieldLinkNest "LandFolio" (318 : Nat) "LandFolio$Parcel" "isBarred" "Z" "LandFolio") ∈ lw_tbl := lw_at lw_m1 231 rfl
theorem q376 : (Jvm.Cond.fieldLinkNest "LandFolio" (242 : Nat) "LandFolio$Deed" "shares" "[I" "LandFolio") ∈ lw_tbl := lw_at lw_m2 35 rfl
theorem q384 : (Jvm.Cond.classLink "LandFolio" (36 : Nat) "java/util/ArrayDeque") ∈ lw_all := lw_g (lw_at lw_m2 43 rfl) rfl
theorem q386 : (Jvm.Cond.methodLink "LandFolio" (38 : Nat) ({ cls := "java/util/ArrayDeque", name := "<init>", desc := "()V" } : Jvm.MethodName)) ∈ lw_all := lw_g (lw_at lw_m2 45 rfl) rfl
theorem q402 : (Jvm.Cond.fieldLink "LandFolio" (32 : Nat) "LandFolio" "folio" "LLandFolio$Folio;") ∈ lw_all := lw_g (lw_at lw_m2 61 rfl) rfl
theorem q403 : (Jvm.Cond.fieldLink "LandFolio" (39 : Nat) "LandFolio" "undos" "Ljava/util/ArrayDeque;") ∈ lw_all := lw_g (lw_at lw_m2 62 rfl) rfl
theorem q404 : (Jvm.Cond.fieldLink "LandFolio" (43 : Nat) "LandFolio" "slots" "[LLandFolio$Folio;") ∈ lw_all := lw_g (lw_at lw_m2 63 rfl) rfl
theorem q406 : (Jvm.Cond.fieldLink "LandFolio" (47 : Nat) "LandFolio" "tape" "[B") ∈ lw_all := lw_g (lw_at lw_m2 65 rfl) rfl
theorem q408 : (Jvm.Cond.fieldLink "LandFolio" (124 : Nat) "LandFolio" "taped" "I") ∈ lw_all := lw_g (lw_at lw_m2 67 rfl) rfl
theorem q409 : (Jvm.Cond.fieldLink "LandFolio" (51 : Nat) "LandFolio" "errorAt" "I") ∈ lw_all := lw_g (lw_at lw_m2 68 rfl) rfl
theorem q410 : (Jvm.Cond.fieldLink "LandFolio" (55 : Nat) "LandFolio" "stepsTo" "[I") ∈ lw_all := lw_g (lw_at lw_m2 69 rfl) rfl
theorem q411 : (Jvm.Cond.lays "LandFolio" "LandFolio" "folio" "LLandFolio$Folio;") ∈ lw_all := lw_g (lw_at lw_m2 70 rfl) rfl
theorem q412 : (Jvm.Cond.soleField "LandFolio" "folio") ∈ lw_all := lw_g (lw_at lw_m2 71 rfl) rfl
theorem q413 : (Jvm.Cond.laysFinal "LandFolio" "LandFolio" "undos" "Ljava/util/ArrayDeque;") ∈ lw_all := lw_g (lw_at lw_m2 72 rfl) rfl
theorem q414 : (Jvm.Cond.soleField "LandFolio" "undos") ∈ lw_all := lw_g (lw_at lw_m2 73 rfl) rfl
theorem q415 : (Jvm.Cond.laysFinal "LandFolio" "LandFolio" "slots" "[LLandFolio$Folio;") ∈ lw_all := lw_g (lw_at lw_m2 74 rfl) rfl
theorem q416 : (Jvm.Cond.soleField "LandFolio" "slots") ∈ lw_all := lw_g (lw_at lw_m2 75 rfl) rfl
theorem q417 : (Jvm.Cond.laysFinal "LandFolio" "LandFolio" "tape" "[B") ∈ lw_all := lw_g (lw_at lw_m2 76 rfl) rfl
theorem q418 : (Jvm.Cond.soleField "LandFolio" "tape") ∈ lw_all := lw_g (lw_at lw_m2 77 rfl) rfl
theorem q419 : (Jvm.Cond.lays "LandFolio" "LandFolio" "taped" "I") ∈ lw_all := lw_g (lw_at lw_m2 78 rfl) rfl
theorem q420 : (Jvm.Cond.soleField "LandFolio" "taped") ∈ lw_all := lw_g (lw_at lw_m2 79 rfl) rfl
theorem q421 : (Jvm.Cond.lays "LandFolio" "LandFolio" "errorAt" "I") ∈ lw_all := lw_g (lw_at lw_m2 80 rfl) rfl
theorem q422 : (Jvm.Cond.soleField "LandFolio" "errorAt") ∈ lw_all := lw_g (lw_at lw_m2 81 rfl) rfl
theorem q423 : (Jvm.Cond.laysFinal "LandFolio" "LandFolio" "stepsTo" "[I") ∈ lw_all := lw_g (lw_at lw_m2 82 rfl) rfl
theorem q424 : (Jvm.Cond.soleField "LandFolio" "stepsTo") ∈ lw_all := lw_g (lw_at lw_m2 83 rfl) rfl
theorem q425 : (Jvm.Cond.superclass "LandFolio" "java/lang/Object") ∈ lw_all := lw_g (lw_at lw_m2 84 rfl) rfl
theorem q427 : (Jvm.Cond.instanceMethod ({ cls := "LandFolio", name := "undo", desc := "()I" } : Jvm.MethodName)) ∈ lw_all := lw_g (lw_at lw_m2 86 rfl) rfl
theorem q428 : (Jvm.Cond.selects "LandFolio" ({ cls := "LandFolio", name := "undo", desc := "()I" } : Jvm.MethodName) ({ cls := "LandFolio", name := "undo", desc := "()I" } : Jvm.MethodName)) ∈ lw_all := lw_g (lw_at lw_m2 87 rfl) rfl
theorem q429 : (Jvm.Cond.code ({ cls := "LandFolio", name := "undo", desc := "()I" } : Jvm.MethodName) prog_1_method_5_code (1 : Nat) (Option.some Jvm.ClassFile.FieldType.int)) ∈ lw_all := lw_g (lw_at lw_m2 88 rfl) rfl
theorem q430 : (Jvm.Cond.methodLink "LandFolio" (71 : Nat) ({ cls := "java/util/ArrayDeque", name := "isEmpty", desc := "()Z" } : Jvm.MethodName)) ∈ lw_all := lw_g (lw_at lw_m2 89 rfl) rfl
theorem q434 : (Jvm.Cond.methodLink "LandFolio" (75 : Nat) ({ cls := "java/util/ArrayDeque", name := "removeLast", desc := "()Ljava/lang/Object;" } : Jvm.MethodName)) ∈ lw_all := lw_g (lw_at lw_m2 93 rfl) rfl
theorem q448 : (Jvm.Cond.methodLink "LandFolio" (59 : Nat) ({ cls := "java/util/ArrayDeque", name := "size", desc := "()I" } : Jvm.MethodName)) ∈ lw_all := lw_g (lw_at lw_m2 107 rfl) rfl
theorem q456 : (Jvm.Cond.instanceMethod ({ cls := "LandFolio", name := "keep", desc := "(I)I" } : Jvm.MethodName)) ∈ lw_all := lw_g (lw_at lw_m2 115 rfl) rfl
theorem q457 : (Jvm.Cond.selects "LandFolio" ({ cls := "LandFolio", name := "keep", desc := "(I)I" } : Jvm.MethodName) ({ cls := "LandFolio", name := "keep", desc := "(I)I" } : Jvm.MethodName)) ∈ lw_all := lw_g (lw_at lw_m2 116 rfl) rfl
theorem q458 : (Jvm.Cond.code ({ cls := "LandFolio", name := "keep", desc := "(I)I" } : Jvm.MethodName) prog_1_method_7_code (2 : Nat) (Option.some Jvm.ClassFile.FieldType.int)) ∈ lw_all := lw_g (lw_at lw_m2 117 rfl) rfl
theorem q459 : (Jvm.Cond.methodLink "LandFolio" (82 : Nat) ({ cls := "LandFolio", name := "isSlot", desc := "(I)Z" } : Jvm.MethodName)) ∈ lw_all := lw_g (lw_at lw_m2 118 rfl) rfl
theorem q460 : (Jvm.Cond.static ({ cls := "LandFolio", name := "isSlot", desc := "(I)Z" } : Jvm.MethodName)) ∈ lw_all := lw_g (lw_at lw_m2 119 rfl) rfl
theorem q461 : (Jvm.Cond.code ({ cls := "LandFolio", name := "isSlot", desc := "(I)Z" } : Jvm.MethodName) prog_1_method_6_code (1 : Nat) (Option.some Jvm.ClassFile.FieldType.boolean)) ∈ lw_all := lw_g (lw_at lw_m2 120 rfl) rfl
theorem q462 : (Jvm.Cond.methodLink "LandFolio" (78 : Nat) ({ cls := "LandFolio", name := "isIn", desc := "(III)Z" } : Jvm.MethodName)) ∈ lw_all := lw_g (lw_at lw_m2 121 rfl) rfl
theorem q463 : (Jvm.Cond.static ({ cls := "LandFolio", name := "isIn", desc := "(III)Z" } : Jvm.MethodName)) ∈ lw_all := lw_g (lw_at lw_m2 122 rfl) rfl
theorem q464 : (Jvm.Cond.code ({ cls := "LandFolio", name := "isIn", desc := "(III)Z" } : Jvm.MethodName) prog_1_method_1_code (3 : Nat) (Option.some Jvm.ClassFile.FieldType.boolean)) ∈ lw_all := lw_g (lw_at lw_m2 123 rfl) rfl
theorem q465 : (Jvm.Cond.methodLink "LandFolio" (86 : Nat) ({ cls := "LandFolio$Folio", name := "copied", desc := "()LLandFolio$Folio;" } : Jvm.MethodName)) ∈ lw_all := lw_g (lw_at lw_m2 124 rfl) rfl
theorem q588 : (Jvm.Cond.fieldLinkNest "LandFolio" (428 : Nat) "LandFolio$Debt" "holder" "I" "LandFolio") ∈ lw_tbl := lw_at lw_m3 7 rfl
theorem q591 : (Jvm.Cond.fieldLinkNest "LandFolio" (287 : Nat) "LandFolio$Debt" "amount" "I" "LandFolio") ∈ lw_tbl := lw_at lw_m3 10 rfl
theorem q598 : (Jvm.Cond.fieldLinkNest "LandFolio" (314 : Nat) "LandFolio$Burden" "place" "I" "LandFolio") ∈ lw_tbl := lw_at lw_m3 17 rfl
theorem q601 : (Jvm.Cond.fieldLinkNest "LandFolio" (290 : Nat) "LandFolio$Burden" "parcels" "Ljava/util/BitSet;" "LandFolio") ∈ lw_tbl := lw_at lw_m3 20 rfl
theorem q632 : (Jvm.Cond.fieldLinkNest "LandFolio" (437 : Nat) "LandFolio$Path" "x" "I" "LandFolio") ∈ lw_tbl := lw_at lw_m3 51 rfl
theorem q635 : (Jvm.Cond.fieldLinkNest "LandFolio" (438 : Nat) "LandFolio$Path" "y" "I" "LandFolio") ∈ lw_tbl := lw_at lw_m3 54 rfl
theorem q672 : (Jvm.Cond.methodLink "LandFolio" (92 : Nat) ({ cls := "java/util/ArrayList", name := "size", desc := "()I" } : Jvm.MethodName)) ∈ lw_all := lw_g (lw_at lw_m3 91 rfl) rfl
theorem q674 : (Jvm.Cond.instanceMethod ({ cls := "LandFolio", name := "restore", desc := "(I)I" } : Jvm.MethodName)) ∈ lw_all := lw_g (lw_at lw_m3 93 rfl) rfl
theorem q675 : (Jvm.Cond.selects "LandFolio" ({ cls := "LandFolio", name := "restore", desc := "(I)I" } : Jvm.MethodName) ({ cls := "LandFolio", name := "restore", desc := "(I)I" } : Jvm.MethodName)) ∈ lw_all := lw_g (lw_at lw_m3 94 rfl) rfl
theorem q676 : (Jvm.Cond.code ({ cls := "LandFolio", name := "restore", desc := "(I)I" } : Jvm.MethodName) prog_1_method_8_code (3 : Nat) (Option.some Jvm.ClassFile.FieldType.int)) ∈ lw_all := lw_g (lw_at lw_m3 95 rfl) rfl
theorem q677 : (Jvm.Cond.methodLink "LandFolio" (93 : Nat) ({ cls := "LandFolio", name := "done", desc := "(LLandFolio$Folio;I)I" } : Jvm.MethodName)) ∈ lw_all := lw_g (lw_at lw_m3 96 rfl) rfl
theorem q678 : (Jvm.Cond.privateMethod ({ cls := "LandFolio", name := "done", desc := "(LLandFolio$Folio;I)I" } : Jvm.MethodName)) ∈ lw_tbl := lw_at lw_m3 97 rfl
theorem q679 : (Jvm.Cond.instanceMethod ({ cls := "LandFolio", name := "done", desc := "(LLandFolio$Folio;I)I" } : Jvm.MethodName)) ∈ lw_all := lw_g (lw_at lw_m3 98 rfl) rfl
theorem q680 : (Jvm.Cond.code ({ cls := "LandFolio", name := "done", desc := "(LLandFolio$Folio;I)I" } : Jvm.MethodName) prog_1_method_4_code (4 : Nat) (Option.some Jvm.ClassFile.FieldType.int)) ∈ lw_all := lw_g (lw_at lw_m3 99 rfl) rfl
theorem q681 : (Jvm.Cond.methodLink "LandFolio" (63 : Nat) ({ cls := "java/util/ArrayDeque", name := "removeFirst", desc := "()Ljava/lang/Object;" } : Jvm.MethodName)) ∈ lw_all := lw_g (lw_at lw_m3 100 rfl) rfl
theorem q692 : (Jvm.Cond.methodLink "LandFolio" (67 : Nat) ({ cls := "java/util/ArrayDeque", name := "addLast", desc := "(Ljava/lang/Object;)V" } : Jvm.MethodName)) ∈ lw_all := lw_g (lw_at lw_m3 111 rfl) rfl
theorem q708 : (Jvm.Cond.instanceMethod ({ cls := "LandFolio", name := "append", desc := "(IIIII)I" } : Jvm.MethodName)) ∈ lw_all := lw_g (lw_at lw_m3 127 rfl) rfl
theorem q709 : (Jvm.Cond.selects "LandFolio" ({ cls := "LandFolio", name := "append", desc := "(IIIII)I" } : Jvm.MethodName) ({ cls := "LandFolio", name := "append", desc := "(IIIII)I" } : Jvm.MethodName)) ∈ lw_all := lw_g (lw_at lw_m3 128 rfl) rfl
theorem q710 : (Jvm.Cond.code ({ cls := "LandFolio", name := "append", desc := "(IIIII)I" } : Jvm.MethodName) prog_1_method_16_code (6 : Nat) (Option.some Jvm.ClassFile.FieldType.int)) ∈ lw_all := lw_g (lw_at lw_m3 129 rfl) rfl
theorem q711 : (Jvm.Cond.methodLink "LandFolio" (127 : Nat) ({ cls := "LandFolio", name := "tapes", desc := "(I)V" } : Jvm.MethodName)) ∈ lw_all := lw_g (lw_at lw_m3 130 rfl) rfl
theorem q712 : (Jvm.Cond.privateMethod ({ cls := "LandFolio", name := "tapes", desc := "(I)V" } : Jvm.MethodName)) ∈ lw_tbl := lw_at lw_m3 131 rfl
theorem q713 : (Jvm.Cond.instanceMethod ({ cls := "LandFolio", name := "tapes", desc := "(I)V" } : Jvm.MethodName)) ∈ lw_all := lw_g (lw_at lw_m3 132 rfl) rfl
theorem q714 : (Jvm.Cond.code ({ cls := "LandFolio", name := "tapes", desc := "(I)V" } : Jvm.MethodName) prog_1_method_17_code (3 : Nat) (Option.none : Option Jvm.ClassFile.FieldType)) ∈ lw_all := lw_g (lw_at lw_m3 133 rfl) rfl
theorem q716 : (Jvm.Cond.instanceMethod ({ cls := "LandFolio", name := "truncate", desc := "(I)I" } : Jvm.MethodName)) ∈ lw_all := lw_g (lw_at lw_m3 135 rfl) rfl
theorem q717 : (Jvm.Cond.selects "LandFolio" ({ cls := "LandFolio", name := "truncate", desc := "(I)I" } : Jvm.MethodName) ({ cls := "LandFolio", name := "truncate", desc := "(I)I" } : Jvm.MethodName)) ∈ lw_all := lw_g (lw_at lw_m3 136 rfl) rfl
theorem q718 : (Jvm.Cond.code ({ cls := "LandFolio", name := "truncate", desc := "(I)I" } : Jvm.MethodName) prog_1_method_18_code (2 : Nat) (Option.some Jvm.ClassFile.FieldType.int)) ∈ lw_all := lw_g (lw_at lw_m3 137 rfl) rfl
theorem q720 : (Jvm.Cond.instanceMethod ({ cls := "LandFolio", name := "errorPosition", desc := "()I" } : Jvm.MethodName)) ∈ lw_all := lw_g (lw_at lw_m3 139 rfl) rfl
theorem q721 : (Jvm.Cond.selects "LandFolio" ({ cls := "LandFolio", name := "errorPosition", desc := "()I" } : Jvm.MethodName) ({ cls := "LandFolio", name := "errorPosition", desc := "()I" } : Jvm.MethodName)) ∈ lw_all := lw_g (lw_at lw_m3 140 rfl) rfl
theorem q722 : (Jvm.Cond.code ({ cls := "LandFolio", name := "errorPosition", desc := "()I" } : Jvm.MethodName) prog_1_method_19_code (1 : Nat) (Option.some Jvm.ClassFile.FieldType.int)) ∈ lw_all := lw_g (lw_at lw_m3 141 rfl) rfl
theorem q724 : (Jvm.Cond.instanceMethod ({ cls := "LandFolio", name := "load", desc := "()I" } : Jvm.MethodName)) ∈ lw_all := lw_g (lw_at lw_m3 143 rfl) rfl
theorem q725 : (Jvm.Cond.selects "LandFolio" ({ cls := "LandFolio", name := "load", desc := "()I" } : Jvm.MethodName) ({ cls := "LandFolio", name := "load", desc := "()I" } : Jvm.MethodName)) ∈ lw_all := lw_g (lw_at lw_m3 144 rfl) rfl
theorem q726 : (Jvm.Cond.codeWith ({ cls := "LandFolio", name := "load", desc := "()I" } : Jvm.MethodName) prog_1_method_21_code (5 : Nat) (Option.some Jvm.ClassFile.FieldType.int) [((0 : Nat), (19 : Nat), (27 : Nat), (168 : Nat)), ((0 : Nat), (19 : Nat), (45 : Nat), (0 : Nat)), ((27 : Nat), (38 : Nat), (45 : Nat), (0 : Nat)), ((45 : Nat), (47 : Nat), (45 : Nat), (0 : Nat))]) ∈ lw_all := lw_g (lw_at lw_m3 145 rfl) rfl
theorem q727 : (Jvm.Cond.classLink "LandFolio" (168 : Nat) "LandFolio$Fault") ∈ lw_all := lw_g (lw_at lw_m3 146 rfl) rfl
theorem q728 : (Jvm.Cond.classLink "LandFolio" (160 : Nat) "LandFolio$Reader") ∈ lw_all := lw_g (lw_at lw_m3 147 rfl) rfl
theorem q730 : (Jvm.Cond.methodLink "LandFolio" (162 : Nat) ({ cls := "LandFolio$Reader", name := "<init>", desc := "(LLandFolio;)V" } : Jvm.MethodName)) ∈ lw_all := lw_g (lw_at lw_m3 149 rfl) rfl
theorem q921 : (Jvm.Cond.static ({ cls := "LandFolio", name := "kindOf", desc := "(Ljava/lang/String;)I" } : Jvm.MethodName)) ∈ lw_all := lw_g (lw_at lw_m4 100 rfl) rfl
theorem q922 : (Jvm.Cond.code ({ cls := "LandFolio", name := "kindOf", desc := "(Ljava/lang/String;)I" } : Jvm.MethodName) prog_1_method_20_code (3 : Nat) (Option.some Jvm.ClassFile.FieldType.int)) ∈ lw_all := lw_g (lw_at lw_m4 101 rfl) rfl
theorem q923 : (Jvm.Cond.methodLink "LandFolio" (131 : Nat) ({ cls := "java/lang/String", name := "hashCode", desc := "()I" } : Jvm.MethodName)) ∈ lw_all := lw_g (lw_at lw_m4 102 rfl) rfl
theorem q976 : (Jvm.Cond.stringRef "LandFolio" (136 : Nat) "land") ∈ lw_tbl := lw_at lw_m4 155 rfl
theorem q977 : (Jvm.Cond.methodLink "LandFolio" (138 : Nat) ({ cls := "java/lang/String", name := "equals", desc := "(Ljava/lang/Object;)Z" } : Jvm.MethodName)) ∈ lw_all := lw_g (lw_at lw_m4 156 rfl) rfl
theorem q985 : (Jvm.Cond.stringRef "LandFolio" (141 : Nat) "price") ∈ lw_tbl := lw_at lw_m4 164 rfl
theorem q986 : (Jvm.Cond.stringRef "LandFolio" (143 : Nat) "owner") ∈ lw_tbl := lw_at lw_m4 165 rfl
theorem q987 : (Jvm.Cond.stringRef "LandFolio" (145 : Nat) "split") ∈ lw_tbl := lw_at lw_m4 166 rfl
theorem q988 : (Jvm.Cond.stringRef "LandFolio" (147 : Nat) "row") ∈ lw_tbl := lw_at lw_m4 167 rfl
theorem q989 : (Jvm.Cond.stringRef "LandFolio" (149 : Nat) "col") ∈ lw_tbl := lw_at lw_m4 168 rfl
theorem q990 : (Jvm.Cond.stringRef "LandFolio" (151 : Nat) "give") ∈ lw_tbl := lw_at lw_m4 169 rfl
theorem q991 : (Jvm.Cond.stringRef "LandFolio" (153 : Nat) "debt") ∈ lw_tbl := lw_at lw_m4 170 rfl
theorem q992 : (Jvm.Cond.stringRef "LandFolio" (155 : Nat) "path") ∈ lw_tbl := lw_at lw_m4 171 rfl
theorem q993 : (Jvm.Cond.methodLink "LandFolio" (157 : Nat) ({ cls := "java/lang/String", name := "length", desc := "()I" } : Jvm.MethodName)) ∈ lw_all := lw_g (lw_at lw_m4 172 rfl) rfl
theorem q1006 : (Jvm.Cond.fieldLinkNest "LandFolio" (173 : Nat) "LandFolio$Reader" "read" "LLandFolio$Folio;" "LandFolio") ∈ lw_tbl := lw_at lw_m4 185 rfl
theorem q1028 : (Jvm.Cond.methodLink "LandFolio" (165 : Nat) ({ cls := "LandFolio$Reader", name := "setup", desc := "()V" } : Jvm.MethodName)) ∈ lw_all := lw_g (lw_at lw_m4 207 rfl) rfl
theorem q1090 : (Jvm.Cond.fieldLink "LandFolio" (170 : Nat) "LandFolio$Fault" "place" "I") ∈ lw_all := lw_g (lw_at lw_m5 29 rfl) rfl
theorem q1138 : (Jvm.Cond.selects "LandFolio" ({ cls := "java/lang/Object", name := "equals", desc := "(Ljava/lang/Object;)Z" } : Jvm.MethodName) ({ cls := "java/lang/Object", name := "equals", desc := "(Ljava/lang/Object;)Z" } : Jvm.MethodName)) ∈ lw_all := lw_g (lw_at lw_m5 77 rfl) rfl
theorem q1183 : (Jvm.Cond.static ({ cls := "LandFolio", name := "parts", desc := "(LLandFolio$Parcel;II)Z" } : Jvm.MethodName)) ∈ lw_all := lw_g (lw_at lw_m5 122 rfl) rfl
theorem q1184 : (Jvm.Cond.code ({ cls := "LandFolio", name := "parts", desc := "(LLandFolio$Parcel;II)Z" } : Jvm.MethodName) prog_1_method_14_code (3 : Nat) (Option.some Jvm.ClassFile.FieldType.boolean)) ∈ lw_all := lw_g (lw_at lw_m5 123 rfl) rfl
theorem q1297 : (Jvm.Cond.methodLink "LandFolio" (176 : Nat) ({ cls := "java/util/ArrayDeque", name := "clear", desc := "()V" } : Jvm.MethodName)) ∈ lw_all := lw_g (lw_at lw_m5 236 rfl) rfl
theorem q1305 : (Jvm.Cond.instanceMethod ({ cls := "LandFolio", name := "owner", desc := "()I" } : Jvm.MethodName)) ∈ lw_all := lw_g (lw_at lw_m6 4 rfl) rfl
theorem q1306 : (Jvm.Cond.selects "LandFolio" ({ cls := "LandFolio", name := "owner", desc := "()I" } : Jvm.MethodName) ({ cls := "LandFolio", name := "owner", desc := "()I" } : Jvm.MethodName)) ∈ lw_all := lw_g (lw_at lw_m6 5 rfl) rfl
theorem q1307 : (Jvm.Cond.code ({ cls := "LandFolio", name := "owner", desc := "()I" } : Jvm.MethodName) prog_1_method_23_code (3 : Nat) (Option.some Jvm.ClassFile.FieldType.int)) ∈ lw_all := lw_g (lw_at lw_m6 6 rfl) rfl
theorem q1308 : (Jvm.Cond.methodLink "LandFolio" (197 : Nat) ({ cls := "LandFolio", name := "newName", desc := "()Ljava/lang/String;" } : Jvm.MethodName)) ∈ lw_all := lw_g (lw_at lw_m6 7 rfl) rfl
theorem q1309 : (Jvm.Cond.privateMethod ({ cls := "LandFolio", name := "newName", desc := "()Ljava/lang/String;" } : Jvm.MethodName)) ∈ lw_tbl := lw_at lw_m6 8 rfl
theorem q1310 : (Jvm.Cond.instanceMethod ({ cls := "LandFolio", name := "newName", desc := "()Ljava/lang/String;" } : Jvm.MethodName)) ∈ lw_all := lw_g (lw_at lw_m6 9 rfl) rfl
theorem q1311 : (Jvm.Cond.code ({ cls := "LandFolio", name := "newName", desc := "()Ljava/lang/String;" } : Jvm.MethodName) prog_1_method_22_code (4 : Nat) (Option.some (Jvm.ClassFile.FieldType.object "java/lang/String"))) ∈ lw_all := lw_g (lw_at lw_m6 10 rfl) rfl
theorem q1312 : (Jvm.Cond.classLink "LandFolio" (179 : Nat) "java/lang/StringBuilder") ∈ lw_all := lw_g (lw_at lw_m6 11 rfl) rfl
theorem q1313 : (Jvm.Cond.methodLink "LandFolio" (181 : Nat) ({ cls := "java/lang/StringBuilder", name := "<init>", desc := "()V" } : Jvm.MethodName)) ∈ lw_all := lw_g (lw_at lw_m6 12 rfl) rfl
theorem q1314 : (Jvm.Cond.methodLink "LandFolio" (182 : Nat) ({ cls := "java/lang/StringBuilder", name := "append", desc := "(C)Ljava/lang/StringBuilder;" } : Jvm.MethodName)) ∈ lw_all := lw_g (lw_at lw_m6 13 rfl) rfl
theorem q1315 : (Jvm.Cond.methodLink "LandFolio" (186 : Nat) ({ cls := "java/lang/StringBuilder", name := "toString", desc := "()Ljava/lang/String;" } : Jvm.MethodName)) ∈ lw_all := lw_g (lw_at lw_m6 14 rfl) rfl
theorem q1316 : (Jvm.Cond.methodLink "LandFolio" (190 : Nat) ({ cls := "LandFolio", name := "kindOf", desc := "(Ljava/lang/String;)I" } : Jvm.MethodName)) ∈ lw_all := lw_g (lw_at lw_m6 15 rfl) rfl
theorem q1317 : (Jvm.Cond.methodLink "LandFolio" (194 : Nat) ({ cls := "java/util/ArrayList", name := "contains", desc := "(Ljava/lang/Object;)Z" } : Jvm.MethodName)) ∈ lw_all := lw_g (lw_at lw_m6 16 rfl) rfl
theorem q1318 : (Jvm.Cond.methodLink "LandFolio" (200 : Nat) ({ cls := "LandFolio$Folio", name := "logs", desc := "(III)V" } : Jvm.MethodName)) ∈ lw_all := lw_g (lw_at lw_m6 17 rfl) rfl
theorem q1347 : (Jvm.Cond.instanceMethod ({ cls := "LandFolio", name := "rename", desc := "(I)I" } : Jvm.MethodName)) ∈ lw_all := lw_g (lw_at lw_m6 46 rfl) rfl
theorem q1348 : (Jvm.Cond.selects "LandFolio" ({ cls := "LandFolio", name := "rename", desc := "(I)I" } : Jvm.MethodName) ({ cls := "LandFolio", name := "rename", desc := "(I)I" } : Jvm.MethodName)) ∈ lw_all := lw_g (lw_at lw_m6 47 rfl) rfl
theorem q1349 : (Jvm.Cond.code ({ cls := "LandFolio", name := "rename", desc := "(I)I" } : Jvm.MethodName) prog_1_method_24_code (5 : Nat) (Option.some Jvm.ClassFile.FieldType.int)) ∈ lw_all := lw_g (lw_at lw_m6 48 rfl) rfl
theorem q1350 : (Jvm.Cond.methodLink "LandFolio" (203 : Nat) ({ cls := "LandFolio", name := "isOwner", desc := "(I)Z" } : Jvm.MethodName)) ∈ lw_all := lw_g (lw_at lw_m6 49 rfl) rfl
theorem q1351 : (Jvm.Cond.privateMethod ({ cls := "LandFolio", name := "isOwner", desc := "(I)Z" } : Jvm.MethodName)) ∈ lw_tbl := lw_at lw_m6 50 rfl
theorem q1352 : (Jvm.Cond.instanceMethod ({ cls := "LandFolio", name := "isOwner", desc := "(I)Z" } : Jvm.MethodName)) ∈ lw_all := lw_g (lw_at lw_m6 51 rfl) rfl
theorem q1353 : (Jvm.Cond.code ({ cls := "LandFolio", name := "isOwner", desc := "(I)Z" } : Jvm.MethodName) prog_1_method_9_code (2 : Nat) (Option.some Jvm.ClassFile.FieldType.boolean)) ∈ lw_all := lw_g (lw_at lw_m6 52 rfl) rfl
theorem q1354 : (Jvm.Cond.methodLink "LandFolio" (206 : Nat) ({ cls := "java/util/ArrayList", name := "set", desc := "(ILjava/lang/Object;)Ljava/lang/Object;" } : Jvm.MethodName)) ∈ lw_all := lw_g (lw_at lw_m6 53 rfl) rfl
theorem q1355 : (Jvm.Cond.classLink "LandFolio" (132 : Nat) "java/lang/String") ∈ lw_all := lw_g (lw_at lw_m6 54 rfl) rfl
theorem q1357 : (Jvm.Cond.instanceMethod ({ cls := "LandFolio", name := "split", desc := "(III)I" } : Jvm.MethodName)) ∈ lw_all := lw_g (lw_at lw_m6 56 rfl) rfl
theorem q1358 : (Jvm.Cond.selects "LandFolio" ({ cls := "LandFolio", name := "split", desc := "(III)I" } : Jvm.MethodName) ({ cls := "LandFolio", name := "split", desc := "(III)I" } : Jvm.MethodName)) ∈ lw_all := lw_g (lw_at lw_m6 57 rfl) rfl
theorem q1359 : (Jvm.Cond.code ({ cls := "LandFolio", name := "split", desc := "(III)I" } : Jvm.MethodName) prog_1_method_25_code (6 : Nat) (Option.some Jvm.ClassFile.FieldType.int)) ∈ lw_all := lw_g (lw_at lw_m6 58 rfl) rfl
theorem q1360 : (Jvm.Cond.methodLink "LandFolio" (210 : Nat) ({ cls := "LandFolio", name := "isSplit", desc := "(III)Z" } : Jvm.MethodName)) ∈ lw_all := lw_g (lw_at lw_m6 59 rfl) rfl
theorem q1361 : (Jvm.Cond.privateMethod ({ cls := "LandFolio", name := "isSplit", desc := "(III)Z" } : Jvm.MethodName)) ∈ lw_tbl := lw_at lw_m6 60 rfl
theorem q1362 : (Jvm.Cond.instanceMethod ({ cls := "LandFolio", name := "isSplit", desc := "(III)Z" } : Jvm.MethodName)) ∈ lw_all := lw_g (lw_at lw_m6 61 rfl) rfl
theorem q1363 : (Jvm.Cond.code ({ cls := "LandFolio", name := "isSplit", desc := "(III)Z" } : Jvm.MethodName) prog_1_method_15_code (4 : Nat) (Option.some Jvm.ClassFile.FieldType.boolean)) ∈ lw_all := lw_g (lw_at lw_m6 62 rfl) rfl
theorem q1364 : (Jvm.Cond.methodLink "LandFolio" (110 : Nat) ({ cls := "LandFolio", name := "isParcel", desc := "(I)Z" } : Jvm.MethodName)) ∈ lw_all := lw_g (lw_at lw_m6 63 rfl) rfl
theorem q1365 : (Jvm.Cond.privateMethod ({ cls := "LandFolio", name := "isParcel", desc := "(I)Z" } : Jvm.MethodName)) ∈ lw_tbl := lw_at lw_m6 64 rfl
theorem q1366 : (Jvm.Cond.instanceMethod ({ cls := "LandFolio", name := "isParcel", desc := "(I)Z" } : Jvm.MethodName)) ∈ lw_all := lw_g (lw_at lw_m6 65 rfl) rfl
theorem q1367 : (Jvm.Cond.code ({ cls := "LandFolio", name := "isParcel", desc := "(I)Z" } : Jvm.MethodName) prog_1_method_10_code (2 : Nat) (Option.some Jvm.ClassFile.FieldType.boolean)) ∈ lw_all := lw_g (lw_at lw_m6 66 rfl) rfl
theorem q1368 : (Jvm.Cond.methodLink "LandFolio" (113 : Nat) ({ cls := "LandFolio", name := "isFlag", desc := "(I)Z" } : Jvm.MethodName)) ∈ lw_all := lw_g (lw_at lw_m6 67 rfl) rfl
theorem q1369 : (Jvm.Cond.static ({ cls := "LandFolio", name := "isFlag", desc := "(I)Z" } : Jvm.MethodName)) ∈ lw_all := lw_g (lw_at lw_m6 68 rfl) rfl
theorem q1370 : (Jvm.Cond.code ({ cls := "LandFolio", name := "isFlag", desc := "(I)Z" } : Jvm.MethodName) prog_1_method_13_code (1 : Nat) (Option.some Jvm.ClassFile.FieldType.boolean)) ∈ lw_all := lw_g (lw_at lw_m6 69 rfl) rfl
theorem q1371 : (Jvm.Cond.methodLink "LandFolio" (116 : Nat) ({ cls := "LandFolio$Folio", name := "parcel", desc := "(I)LLandFolio$Parcel;" } : Jvm.MethodName)) ∈ lw_all := lw_g (lw_at lw_m6 70 rfl) rfl
theorem q1372 : (Jvm.Cond.methodLink "LandFolio" (120 : Nat) ({ cls := "LandFolio", name := "parts", desc := "(LLandFolio$Parcel;II)Z" } : Jvm.MethodName)) ∈ lw_all := lw_g (lw_at lw_m6 71 rfl) rfl
theorem q1373 : (Jvm.Cond.methodLink "LandFolio" (213 : Nat) ({ cls := "LandFolio$Folio", name := "isFree", desc := "(I)Z" } : Jvm.MethodName)) ∈ lw_all := lw_g (lw_at lw_m6 72 rfl) rfl
theorem q1378 : (Jvm.Cond.methodLink "LandFolio" (216 : Nat) ({ cls := "LandFolio$Folio", name := "canSplit", desc := "()Z" } : Jvm.MethodName)) ∈ lw_all := lw_g (lw_at lw_m6 77 rfl) rfl
theorem q1379 : (Jvm.Cond.methodLink "LandFolio" (219 : Nat) ({ cls := "LandFolio$Folio", name := "splits", desc := "(III)I" } : Jvm.MethodName)) ∈ lw_all := lw_g (lw_at lw_m6 78 rfl) rfl
theorem q1381 : (Jvm.Cond.instanceMethod ({ cls := "LandFolio", name := "join", desc := "(II)I" } : Jvm.MethodName)) ∈ lw_all := lw_g (lw_at lw_m6 80 rfl) rfl
theorem q1382 : (Jvm.Cond.selects "LandFolio" ({ cls := "LandFolio", name := "join", desc := "(II)I" } : Jvm.MethodName) ({ cls := "LandFolio", name := "join", desc := "(II)I" } : Jvm.MethodName)) ∈ lw_all := lw_g (lw_at lw_m6 81 rfl) rfl
theorem q1383 : (Jvm.Cond.code ({ cls := "LandFolio", name := "join", desc := "(II)I" } : Jvm.MethodName) prog_1_method_26_code (5 : Nat) (Option.some Jvm.ClassFile.FieldType.int)) ∈ lw_all := lw_g (lw_at lw_m6 82 rfl) rfl
theorem q1384 : (Jvm.Cond.methodLink "LandFolio" (223 : Nat) ({ cls := "LandFolio", name := "whyNot", desc := "(II)I" } : Jvm.MethodName)) ∈ lw_all := lw_g (lw_at lw_m6 83 rfl) rfl
theorem q1385 : (Jvm.Cond.instanceMethod ({ cls := "LandFolio", name := "whyNot", desc := "(II)I" } : Jvm.MethodName)) ∈ lw_all := lw_g (lw_at lw_m6 84 rfl) rfl
theorem q1386 : (Jvm.Cond.selects "LandFolio" ({ cls := "LandFolio", name := "whyNot", desc := "(II)I" } : Jvm.MethodName) ({ cls := "LandFolio", name := "whyNot", desc := "(II)I" } : Jvm.MethodName)) ∈ lw_all := lw_g (lw_at lw_m6 85 rfl) rfl
theorem q1387 : (Jvm.Cond.code ({ cls := "LandFolio", name := "whyNot", desc := "(II)I" } : Jvm.MethodName) prog_1_method_67_code (7 : Nat) (Option.some Jvm.ClassFile.FieldType.int)) ∈ lw_all := lw_g (lw_at lw_m6 86 rfl) rfl
theorem q1388 : (Jvm.Cond.methodLink "LandFolio" (450 : Nat) ({ cls := "LandFolio$Reason", name := "values", desc := "()[LLandFolio$Reason;" } : Jvm.MethodName)) ∈ lw_all := lw_g (lw_at lw_m6 87 rfl) rfl
theorem q1399 : (Jvm.Cond.methodLink "LandFolio" (456 : Nat) ({ cls := "LandFolio$Reason", name := "holds", desc := "(LLandFolio$Folio;II)Z" } : Jvm.MethodName)) ∈ lw_all := lw_g (lw_at lw_m6 98 rfl) rfl
theorem q1439 : (Jvm.Cond.methodLink "LandFolio" (460 : Nat) ({ cls := "LandFolio$Reason", name := "ordinal", desc := "()I" } : Jvm.MethodName)) ∈ lw_all := lw_g (lw_at lw_m6 138 rfl) rfl
theorem q1449 : (Jvm.Cond.methodLink "LandFolio" (230 : Nat) ({ cls := "LandFolio$Folio", name := "joins", desc := "(II)I" } : Jvm.MethodName)) ∈ lw_all := lw_g (lw_at lw_m6 148 rfl) rfl
theorem q1455 : (Jvm.Cond.methodLink "LandFolio" (233 : Nat) ({ cls := "java/lang/Math", name := "min", desc := "(II)I" } : Jvm.MethodName)) ∈ lw_all := lw_g (lw_at lw_m6 154 rfl) rfl
theorem q1457 : (Jvm.Cond.instanceMethod ({ cls := "LandFolio", name := "give", desc := "(IIII)I" } : Jvm.MethodName)) ∈ lw_all := lw_g (lw_at lw_m6 156 rfl) rfl
theorem q1458 : (Jvm.Cond.selects "LandFolio" ({ cls := "LandFolio", name := "give", desc := "(IIII)I" } : Jvm.MethodName) ({ cls := "LandFolio", name := "give", desc := "(IIII)I" } : Jvm.MethodName)) ∈ lw_all := lw_g (lw_at lw_m6 157 rfl) rfl
theorem q1459 : (Jvm.Cond.code ({ cls := "LandFolio", name := "give", desc := "(IIII)I" } : Jvm.MethodName) prog_1_method_27_code (6 : Nat) (Option.some Jvm.ClassFile.FieldType.int)) ∈ lw_all := lw_g (lw_at lw_m6 158 rfl) rfl
theorem q1460 : (Jvm.Cond.methodLink "LandFolio" (238 : Nat) ({ cls := "LandFolio$Folio", name := "deed", desc := "(I)LLandFolio$Deed;" } : Jvm.MethodName)) ∈ lw_all := lw_g (lw_at lw_m6 159 rfl) rfl
theorem q1461 : (Jvm.Cond.methodLink "LandFolio" (247 : Nat) ({ cls := "LandFolio$Folio", name := "needsDeed", desc := "(I)Z" } : Jvm.MethodName)) ∈ lw_all := lw_g (lw_at lw_m6 160 rfl) rfl
theorem q1465 : (Jvm.Cond.methodLink "LandFolio" (250 : Nat) ({ cls := "LandFolio$Folio", name := "gives", desc := "(IIII)V" } : Jvm.MethodName)) ∈ lw_all := lw_g (lw_at lw_m6 164 rfl) rfl
theorem q1467 : (Jvm.Cond.instanceMethod ({ cls := "LandFolio", name := "debt", desc := "(III)I" } : Jvm.MethodName)) ∈ lw_all := lw_g (lw_at lw_m6 166 rfl) rfl
theorem q1468 : (Jvm.Cond.selects "LandFolio" ({ cls := "LandFolio", name := "debt", desc := "(III)I" } : Jvm.MethodName) ({ cls := "LandFolio", name := "debt", desc := "(III)I" } : Jvm.MethodName)) ∈ lw_all := lw_g (lw_at lw_m6 167 rfl) rfl
theorem q1469 : (Jvm.Cond.code ({ cls := "LandFolio", name := "debt", desc := "(III)I" } : Jvm.MethodName) prog_1_method_28_code (6 : Nat) (Option.some Jvm.ClassFile.FieldType.int)) ∈ lw_all := lw_g (lw_at lw_m6 168 rfl) rfl
theorem q1470 : (Jvm.Cond.classLink "LandFolio" (254 : Nat) "LandFolio$Debt") ∈ lw_all := lw_g (lw_at lw_m6 169 rfl) rfl
theorem q1471 : (Jvm.Cond.methodLink "LandFolio" (259 : Nat) ({ cls := "LandFolio$Debt", name := "<init>", desc := "(IIII)V" } : Jvm.MethodName)) ∈ lw_all := lw_g (lw_at lw_m6 170 rfl) rfl
theorem q1472 : (Jvm.Cond.methodLink "LandFolio" (261 : Nat) ({ cls := "LandFolio$Folio", name := "burdens", desc := "(LLandFolio$Burden;I)V" } : Jvm.MethodName)) ∈ lw_all := lw_g (lw_at lw_m6 171 rfl) rfl
theorem q1474 : (Jvm.Cond.instanceMethod ({ cls := "LandFolio", name := "path", desc := "(II)I" } : Jvm.MethodName)) ∈ lw_all := lw_g (lw_at lw_m6 173 rfl) rfl
theorem q1475 : (Jvm.Cond.selects "LandFolio" ({ cls := "LandFolio", name := "path", desc := "(II)I" } : Jvm.MethodName) ({ cls := "LandFolio", name := "path", desc := "(II)I" } : Jvm.MethodName)) ∈ lw_all := lw_g (lw_at lw_m6 174 rfl) rfl
theorem q1476 : (Jvm.Cond.code ({ cls := "LandFolio", name := "path", desc := "(II)I" } : Jvm.MethodName) prog_1_method_29_code (6 : Nat) (Option.some Jvm.ClassFile.FieldType.int)) ∈ lw_all := lw_g (lw_at lw_m6 175 rfl) rfl
theorem q1477 : (Jvm.Cond.methodLink "LandFolio" (264 : Nat) ({ cls := "LandFolio", name := "isSquare", desc := "(II)Z" } : Jvm.MethodName)) ∈ lw_all := lw_g (lw_at lw_m6 176 rfl) rfl
theorem q1478 : (Jvm.Cond.privateMethod ({ cls := "LandFolio", name := "isSquare", desc := "(II)Z" } : Jvm.MethodName)) ∈ lw_tbl := lw_at lw_m6 177 rfl
theorem q1479 : (Jvm.Cond.instanceMethod ({ cls := "LandFolio", name := "isSquare", desc := "(II)Z" } : Jvm.MethodName)) ∈ lw_all := lw_g (lw_at lw_m6 178 rfl) rfl
theorem q1480 : (Jvm.Cond.code ({ cls := "LandFolio", name := "isSquare", desc := "(II)Z" } : Jvm.MethodName) prog_1_method_12_code (3 : Nat) (Option.some Jvm.ClassFile.FieldType.boolean)) ∈ lw_all := lw_g (lw_at lw_m6 179 rfl) rfl
theorem q1481 : (Jvm.Cond.methodLink "LandFolio" (268 : Nat) ({ cls := "LandFolio$Folio", name := "liveAt", desc := "(II)I" } : Jvm.MethodName)) ∈ lw_all := lw_g (lw_at lw_m6 180 rfl) rfl
theorem q1485 : (Jvm.Cond.methodLink "LandFolio" (271 : Nat) ({ cls := "LandFolio$Folio", name := "hasPath", desc := "(III)Z" } : Jvm.MethodName)) ∈ lw_all := lw_g (lw_at lw_m6 184 rfl) rfl
theorem q1486 : (Jvm.Cond.classLink "LandFolio" (274 : Nat) "LandFolio$Path") ∈ lw_all := lw_g (lw_at lw_m6 185 rfl) rfl
theorem q1487 : (Jvm.Cond.methodLink "LandFolio" (276 : Nat) ({ cls := "LandFolio$Path", name := "<init>", desc := "(IIII)V" } : Jvm.MethodName)) ∈ lw_all := lw_g (lw_at lw_m6 186 rfl) rfl
theorem q1489 : (Jvm.Cond.instanceMethod ({ cls := "LandFolio", name := "pay", desc := "(II)I" } : Jvm.MethodName)) ∈ lw_all := lw_g (lw_at lw_m6 188 rfl) rfl
theorem q1490 : (Jvm.Cond.selects "LandFolio" ({ cls := "LandFolio", name := "pay", desc := "(II)I" } : Jvm.MethodName) ({ cls := "LandFolio", name := "pay", desc := "(II)I" } : Jvm.MethodName)) ∈ lw_all := lw_g (lw_at lw_m6 189 rfl) rfl
theorem q1491 : (Jvm.Cond.code ({ cls := "LandFolio", name := "pay", desc := "(II)I" } : Jvm.MethodName) prog_1_method_30_code (5 : Nat) (Option.some Jvm.ClassFile.FieldType.int)) ∈ lw_all := lw_g (lw_at lw_m6 190 rfl) rfl
theorem q1492 : (Jvm.Cond.methodLink "LandFolio" (277 : Nat) ({ cls := "LandFolio", name := "isBurden", desc := "(I)Z" } : Jvm.MethodName)) ∈ lw_all := lw_g (lw_at lw_m6 191 rfl) rfl
theorem q1493 : (Jvm.Cond.privateMethod ({ cls := "LandFolio", name := "isBurden", desc := "(I)Z" } : Jvm.MethodName)) ∈ lw_tbl := lw_at lw_m6 192 rfl
theorem q1494 : (Jvm.Cond.instanceMethod ({ cls := "LandFolio", name := "isBurden", desc := "(I)Z" } : Jvm.MethodName)) ∈ lw_all := lw_g (lw_at lw_m6 193 rfl) rfl
theorem q1495 : (Jvm.Cond.code ({ cls := "LandFolio", name := "isBurden", desc := "(I)Z" } : Jvm.MethodName) prog_1_method_11_code (2 : Nat) (Option.some Jvm.ClassFile.FieldType.boolean)) ∈ lw_all := lw_g (lw_at lw_m6 194 rfl) rfl
theorem q1496 : (Jvm.Cond.methodLink "LandFolio" (280 : Nat) ({ cls := "LandFolio$Folio", name := "burden", desc := "(I)LLandFolio$Burden;" } : Jvm.MethodName)) ∈ lw_all := lw_g (lw_at lw_m6 195 rfl) rfl
theorem q1497 : (Jvm.Cond.methodLink "LandFolio" (284 : Nat) ({ cls := "LandFolio$Debt", name := "isEnded", desc := "()Z" } : Jvm.MethodName)) ∈ lw_all := lw_g (lw_at lw_m6 196 rfl) rfl
theorem q1507 : (Jvm.Cond.methodLink "LandFolio" (295 : Nat) ({ cls := "java/util/BitSet", name := "clear", desc := "()V" } : Jvm.MethodName)) ∈ lw_all := lw_g (lw_at lw_m6 206 rfl) rfl
theorem q1512 : (Jvm.Cond.instanceMethod ({ cls := "LandFolio", name := "free", desc := "(II)I" } : Jvm.MethodName)) ∈ lw_all := lw_g (lw_at lw_m6 211 rfl) rfl
theorem q1513 : (Jvm.Cond.selects "LandFolio" ({ cls := "LandFolio", name := "free", desc := "(II)I" } : Jvm.MethodName) ({ cls := "LandFolio", name := "free", desc := "(II)I" } : Jvm.MethodName)) ∈ lw_all := lw_g (lw_at lw_m6 212 rfl) rfl
theorem q1514 : (Jvm.Cond.code ({ cls := "LandFolio", name := "free", desc := "(II)I" } : Jvm.MethodName) prog_1_method_31_code (5 : Nat) (Option.some Jvm.ClassFile.FieldType.int)) ∈ lw_all := lw_g (lw_at lw_m6 213 rfl) rfl
theorem q1515 : (Jvm.Cond.methodLink "LandFolio" (298 : Nat) ({ cls := "LandFolio$Burden", name := "isOn", desc := "(I)Z" } : Jvm.MethodName)) ∈ lw_all := lw_g (lw_at lw_m6 214 rfl) rfl
theorem q1516 : (Jvm.Cond.methodLink "LandFolio" (301 : Nat) ({ cls := "java/util/BitSet", name := "cardinality", desc := "()I" } : Jvm.MethodName)) ∈ lw_all := lw_g (lw_at lw_m6 215 rfl) rfl
theorem q1526 : (Jvm.Cond.methodLink "LandFolio" (304 : Nat) ({ cls := "LandFolio$Folio", name := "cover", desc := "(LLandFolio$Burden;I)I" } : Jvm.MethodName)) ∈ lw_all := lw_g (lw_at lw_m6 225 rfl) rfl
theorem q1557 : (Jvm.Cond.methodLink "LandFolio" (308 : Nat) ({ cls := "java/util/BitSet", name := "clear", desc := "(I)V" } : Jvm.MethodName)) ∈ lw_all := lw_g (lw_at lw_m7 16 rfl) rfl
theorem q1559 : (Jvm.Cond.instanceMethod ({ cls := "LandFolio", name := "cede", desc := "(II)I" } : Jvm.MethodName)) ∈ lw_all := lw_g (lw_at lw_m7 18 rfl) rfl
theorem q1560 : (Jvm.Cond.selects "LandFolio" ({ cls := "LandFolio", name := "cede", desc := "(II)I" } : Jvm.MethodName) ({ cls := "LandFolio", name := "cede", desc := "(II)I" } : Jvm.MethodName)) ∈ lw_all := lw_g (lw_at lw_m7 19 rfl) rfl
theorem q1561 : (Jvm.Cond.code ({ cls := "LandFolio", name := "cede", desc := "(II)I" } : Jvm.MethodName) prog_1_method_32_code (7 : Nat) (Option.some Jvm.ClassFile.FieldType.int)) ∈ lw_all := lw_g (lw_at lw_m7 20 rfl) rfl
theorem q1562 : (Jvm.Cond.methodLink "LandFolio" (310 : Nat) ({ cls := "java/util/BitSet", name := "intersects", desc := "(Ljava/util/BitSet;)Z" } : Jvm.MethodName)) ∈ lw_all := lw_g (lw_at lw_m7 21 rfl) rfl
theorem q1567 : (Jvm.Cond.instanceMethod ({ cls := "LandFolio", name := "bar", desc := "(II)I" } : Jvm.MethodName)) ∈ lw_all := lw_g (lw_at lw_m7 26 rfl) rfl
theorem q1568 : (Jvm.Cond.selects "LandFolio" ({ cls := "LandFolio", name := "bar", desc := "(II)I" } : Jvm.MethodName) ({ cls := "LandFolio", name := "bar", desc := "(II)I" } : Jvm.MethodName)) ∈ lw_all := lw_g (lw_at lw_m7 27 rfl) rfl
theorem q1569 : (Jvm.Cond.code ({ cls := "LandFolio", name := "bar", desc := "(II)I" } : Jvm.MethodName) prog_1_method_34_code (5 : Nat) (Option.some Jvm.ClassFile.FieldType.int)) ∈ lw_all := lw_g (lw_at lw_m7 28 rfl) rfl
theorem q1570 : (Jvm.Cond.methodLink "LandFolio" (315 : Nat) ({ cls := "LandFolio$Parcel", name := "isLive", desc := "()Z" } : Jvm.MethodName)) ∈ lw_all := lw_g (lw_at lw_m7 29 rfl) rfl
theorem q1571 : (Jvm.Cond.methodLink "LandFolio" (322 : Nat) ({ cls := "LandFolio", name := "barred", desc := "()I" } : Jvm.MethodName)) ∈ lw_all := lw_g (lw_at lw_m7 30 rfl) rfl
theorem q1572 : (Jvm.Cond.privateMethod ({ cls := "LandFolio", name := "barred", desc := "()I" } : Jvm.MethodName)) ∈ lw_tbl := lw_at lw_m7 31 rfl
theorem q1573 : (Jvm.Cond.instanceMethod ({ cls := "LandFolio", name := "barred", desc := "()I" } : Jvm.MethodName)) ∈ lw_all := lw_g (lw_at lw_m7 32 rfl) rfl
theorem q1574 : (Jvm.Cond.code ({ cls := "LandFolio", name := "barred", desc := "()I" } : Jvm.MethodName) prog_1_method_33_code (3 : Nat) (Option.some Jvm.ClassFile.FieldType.int)) ∈ lw_all := lw_g (lw_at lw_m7 33 rfl) rfl
theorem q1576 : (Jvm.Cond.instanceMethod ({ cls := "LandFolio", name := "days", desc := "(I)I" } : Jvm.MethodName)) ∈ lw_all := lw_g (lw_at lw_m7 35 rfl) rfl
theorem q1577 : (Jvm.Cond.selects "LandFolio" ({ cls := "LandFolio", name := "days", desc := "(I)I" } : Jvm.MethodName) ({ cls := "LandFolio", name := "days", desc := "(I)I" } : Jvm.MethodName)) ∈ lw_all := lw_g (lw_at lw_m7 36 rfl) rfl
theorem q1578 : (Jvm.Cond.code ({ cls := "LandFolio", name := "days", desc := "(I)I" } : Jvm.MethodName) prog_1_method_35_code (3 : Nat) (Option.some Jvm.ClassFile.FieldType.int)) ∈ lw_all := lw_g (lw_at lw_m7 37 rfl) rfl
theorem q1580 : (Jvm.Cond.instanceMethod ({ cls := "LandFolio", name := "price", desc := "(I)I" } : Jvm.MethodName)) ∈ lw_all := lw_g (lw_at lw_m7 39 rfl) rfl
theorem q1581 : (Jvm.Cond.selects "LandFolio" ({ cls := "LandFolio", name := "price", desc := "(I)I" } : Jvm.MethodName) ({ cls := "LandFolio", name := "price", desc := "(I)I" } : Jvm.MethodName)) ∈ lw_all := lw_g (lw_at lw_m7 40 rfl) rfl
theorem q1582 : (Jvm.Cond.code ({ cls := "LandFolio", name := "price", desc := "(I)I" } : Jvm.MethodName) prog_1_method_36_code (4 : Nat) (Option.some Jvm.ClassFile.FieldType.int)) ∈ lw_all := lw_g (lw_at lw_m7 41 rfl) rfl
theorem q1584 : (Jvm.Cond.instanceMethod ({ cls := "LandFolio", name := "value", desc := "(I)I" } : Jvm.MethodName)) ∈ lw_all := lw_g (lw_at lw_m7 43 rfl) rfl
theorem q1585 : (Jvm.Cond.selects "LandFolio" ({ cls := "LandFolio", name := "value", desc := "(I)I" } : Jvm.MethodName) ({ cls := "LandFolio", name := "value", desc := "(I)I" } : Jvm.MethodName)) ∈ lw_all := lw_g (lw_at lw_m7 44 rfl) rfl
theorem q1586 : (Jvm.Cond.code ({ cls := "LandFolio", name := "value", desc := "(I)I" } : Jvm.MethodName) prog_1_method_43_code (2 : Nat) (Option.some Jvm.ClassFile.FieldType.int)) ∈ lw_all := lw_g (lw_at lw_m7 45 rfl) rfl
theorem q1587 : (Jvm.Cond.methodLink "LandFolio" (339 : Nat) ({ cls := "LandFolio", name := "live", desc := "()I" } : Jvm.MethodName)) ∈ lw_all := lw_g (lw_at lw_m7 46 rfl) rfl
theorem q1588 : (Jvm.Cond.privateMethod ({ cls := "LandFolio", name := "live", desc := "()I" } : Jvm.MethodName)) ∈ lw_tbl := lw_at lw_m7 47 rfl
theorem q1589 : (Jvm.Cond.instanceMethod ({ cls := "LandFolio", name := "live", desc := "()I" } : Jvm.MethodName)) ∈ lw_all := lw_g (lw_at lw_m7 48 rfl) rfl
theorem q1590 : (Jvm.Cond.code ({ cls := "LandFolio", name := "live", desc := "()I" } : Jvm.MethodName) prog_1_method_37_code (3 : Nat) (Option.some Jvm.ClassFile.FieldType.int)) ∈ lw_all := lw_g (lw_at lw_m7 49 rfl) rfl
theorem q1591 : (Jvm.Cond.methodLink "LandFolio" (342 : Nat) ({ cls := "LandFolio", name := "open", desc := "()I" } : Jvm.MethodName)) ∈ lw_all := lw_g (lw_at lw_m7 50 rfl) rfl
theorem q1592 : (Jvm.Cond.privateMethod ({ cls := "LandFolio", name := "open", desc := "()I" } : Jvm.MethodName)) ∈ lw_tbl := lw_at lw_m7 51 rfl
theorem q1593 : (Jvm.Cond.instanceMethod ({ cls := "LandFolio", name := "open", desc := "()I" } : Jvm.MethodName)) ∈ lw_all := lw_g (lw_at lw_m7 52 rfl) rfl
theorem q1594 : (Jvm.Cond.code ({ cls := "LandFolio", name := "open", desc := "()I" } : Jvm.MethodName) prog_1_method_38_code (3 : Nat) (Option.some Jvm.ClassFile.FieldType.int)) ∈ lw_all := lw_g (lw_at lw_m7 53 rfl) rfl
theorem q1595 : (Jvm.Cond.methodLink "LandFolio" (327 : Nat) ({ cls := "LandFolio$Burden", name := "isEnded", desc := "()Z" } : Jvm.MethodName)) ∈ lw_all := lw_g (lw_at lw_m7 54 rfl) rfl
theorem q1596 : (Jvm.Cond.methodLink "LandFolio" (345 : Nat) ({ cls := "LandFolio", name := "allAmounts", desc := "()I" } : Jvm.MethodName)) ∈ lw_all := lw_g (lw_at lw_m7 55 rfl) rfl
theorem q1597 : (Jvm.Cond.privateMethod ({ cls := "LandFolio", name := "allAmounts", desc := "()I" } : Jvm.MethodName)) ∈ lw_tbl := lw_at lw_m7 56 rfl
theorem q1598 : (Jvm.Cond.instanceMethod ({ cls := "LandFolio", name := "allAmounts", desc := "()I" } : Jvm.MethodName)) ∈ lw_all := lw_g (lw_at lw_m7 57 rfl) rfl
theorem q1599 : (Jvm.Cond.code ({ cls := "LandFolio", name := "allAmounts", desc := "()I" } : Jvm.MethodName) prog_1_method_39_code (5 : Nat) (Option.some Jvm.ClassFile.FieldType.int)) ∈ lw_all := lw_g (lw_at lw_m7 58 rfl) rfl
theorem q1600 : (Jvm.Cond.methodLink "LandFolio" (348 : Nat) yX1_unsf) ∈ lw_all := lw_g (lw_at lw_m7 59 rfl) rfl
theorem q1606 : (Jvm.Cond.methodLink "LandFolio" (351 : Nat) ({ cls := "LandFolio", name := "pairs", desc := "()I" } : Jvm.MethodName)) ∈ lw_all := lw_g (lw_at lw_m7 65 rfl) rfl
theorem q1607 : (Jvm.Cond.privateMethod ({ cls := "LandFolio", name := "pairs", desc := "()I" } : Jvm.MethodName)) ∈ lw_tbl := lw_at lw_m7 66 rfl
theorem q1608 : (Jvm.Cond.instanceMethod ({ cls := "LandFolio", name := "pairs", desc := "()I" } : Jvm.MethodName)) ∈ lw_all := lw_g (lw_at lw_m7 67 rfl) rfl
theorem q1609 : (Jvm.Cond.code ({ cls := "LandFolio", name := "pairs", desc := "()I" } : Jvm.MethodName) prog_1_method_42_code (3 : Nat) (Option.some Jvm.ClassFile.FieldType.int)) ∈ lw_all := lw_g (lw_at lw_m7 68 rfl) rfl
theorem q1610 : (Jvm.Cond.methodLink "LandFolio" (335 : Nat) ({ cls := "LandFolio", name := "neighbours", desc := "(I)I" } : Jvm.MethodName)) ∈ lw_all := lw_g (lw_at lw_m7 69 rfl) rfl
theorem q1611 : (Jvm.Cond.privateMethod ({ cls := "LandFolio", name := "neighbours", desc := "(I)I" } : Jvm.MethodName)) ∈ lw_tbl := lw_at lw_m7 70 rfl
theorem q1612 : (Jvm.Cond.instanceMethod ({ cls := "LandFolio", name := "neighbours", desc := "(I)I" } : Jvm.MethodName)) ∈ lw_all := lw_g (lw_at lw_m7 71 rfl) rfl
theorem q1613 : (Jvm.Cond.code ({ cls := "LandFolio", name := "neighbours", desc := "(I)I" } : Jvm.MethodName) prog_1_method_41_code (4 : Nat) (Option.some Jvm.ClassFile.FieldType.int)) ∈ lw_all := lw_g (lw_at lw_m7 72 rfl) rfl
theorem q1614 : (Jvm.Cond.methodLink "LandFolio" (332 : Nat) ({ cls := "LandFolio", name := "areNeighbours", desc := "(II)Z" } : Jvm.MethodName)) ∈ lw_all := lw_g (lw_at lw_m7 73 rfl) rfl
theorem q1615 : (Jvm.Cond.privateMethod ({ cls := "LandFolio", name := "areNeighbours", desc := "(II)Z" } : Jvm.MethodName)) ∈ lw_tbl := lw_at lw_m7 74 rfl
theorem q1616 : (Jvm.Cond.instanceMethod ({ cls := "LandFolio", name := "areNeighbours", desc := "(II)Z" } : Jvm.MethodName)) ∈ lw_all := lw_g (lw_at lw_m7 75 rfl) rfl
theorem q1617 : (Jvm.Cond.code ({ cls := "LandFolio", name := "areNeighbours", desc := "(II)Z" } : Jvm.MethodName) prog_1_method_40_code (3 : Nat) (Option.some Jvm.ClassFile.FieldType.boolean)) ∈ lw_all := lw_g (lw_at lw_m7 76 rfl) rfl
theorem q1618 : (Jvm.Cond.methodLink "LandFolio" (328 : Nat) ({ cls := "LandFolio$Parcel", name := "edge", desc := "(LLandFolio$Parcel;)I" } : Jvm.MethodName)) ∈ lw_all := lw_g (lw_at lw_m7 77 rfl) rfl
theorem q1620 : (Jvm.Cond.instanceMethod ({ cls := "LandFolio", name := "parcel", desc := "(II)I" } : Jvm.MethodName)) ∈ lw_all := lw_g (lw_at lw_m7 79 rfl) rfl
theorem q1621 : (Jvm.Cond.selects "LandFolio" ({ cls := "LandFolio", name := "parcel", desc := "(II)I" } : Jvm.MethodName) ({ cls := "LandFolio", name := "parcel", desc := "(II)I" } : Jvm.MethodName)) ∈ lw_all := lw_g (lw_at lw_m7 80 rfl) rfl
theorem q1622 : (Jvm.Cond.code ({ cls := "LandFolio", name := "parcel", desc := "(II)I" } : Jvm.MethodName) prog_1_method_46_code (4 : Nat) (Option.some Jvm.ClassFile.FieldType.int)) ∈ lw_all := lw_g (lw_at lw_m7 81 rfl) rfl
theorem q1623 : (Jvm.Cond.methodLink "LandFolio" (380 : Nat) ({ cls := "LandFolio$Parcel", name := "area", desc := "()I" } : Jvm.MethodName)) ∈ lw_all := lw_g (lw_at lw_m7 82 rfl) rfl
theorem q1624 : (Jvm.Cond.methodLink "LandFolio" (389 : Nat) ({ cls := "LandFolio", name := "burdensOn", desc := "(I)I" } : Jvm.MethodName)) ∈ lw_all := lw_g (lw_at lw_m7 83 rfl) rfl
theorem q1625 : (Jvm.Cond.privateMethod ({ cls := "LandFolio", name := "burdensOn", desc := "(I)I" } : Jvm.MethodName)) ∈ lw_tbl := lw_at lw_m7 84 rfl
theorem q1626 : (Jvm.Cond.instanceMethod ({ cls := "LandFolio", name := "burdensOn", desc := "(I)I" } : Jvm.MethodName)) ∈ lw_all := lw_g (lw_at lw_m7 85 rfl) rfl
theorem q1627 : (Jvm.Cond.code ({ cls := "LandFolio", name := "burdensOn", desc := "(I)I" } : Jvm.MethodName) prog_1_method_44_code (5 : Nat) (Option.some Jvm.ClassFile.FieldType.int)) ∈ lw_all := lw_g (lw_at lw_m7 86 rfl) rfl
theorem q1628 : (Jvm.Cond.classLink "LandFolio" (357 : Nat) "LandFolio$ByRank") ∈ lw_all := lw_g (lw_at lw_m7 87 rfl) rfl
theorem q1630 : (Jvm.Cond.methodLink "LandFolio" (359 : Nat) ({ cls := "LandFolio$ByRank", name := "<init>", desc := "(LLandFolio$Folio;I)V" } : Jvm.MethodName)) ∈ lw_all := lw_g (lw_at lw_m7 89 rfl) rfl
theorem q1641 : (Jvm.Cond.methodLink "LandFolio" (362 : Nat) ({ cls := "LandFolio$ByRank", name := "iterator", desc := "()Ljava/util/Iterator;" } : Jvm.MethodName)) ∈ lw_all := lw_g (lw_at lw_m7 100 rfl) rfl
theorem q1665 : (Jvm.Cond.interfaceEntry "LandFolio" (366 : Nat)) ∈ lw_tbl := lw_at lw_m7 124 rfl
theorem q1666 : (Jvm.Cond.methodLink "LandFolio" (366 : Nat) ({ cls := "java/util/Iterator", name := "hasNext", desc := "()Z" } : Jvm.MethodName)) ∈ lw_all := lw_g (lw_at lw_m7 125 rfl) rfl
theorem q1675 : (Jvm.Cond.interfaceEntry "LandFolio" (371 : Nat)) ∈ lw_tbl := lw_at lw_m7 134 rfl
theorem q1676 : (Jvm.Cond.methodLink "LandFolio" (371 : Nat) ({ cls := "java/util/Iterator", name := "next", desc := "()Ljava/lang/Object;" } : Jvm.MethodName)) ∈ lw_all := lw_g (lw_at lw_m7 135 rfl) rfl
theorem q1711 : (Jvm.Cond.classLink "LandFolio" (291 : Nat) "LandFolio$Burden") ∈ lw_all := lw_g (lw_at lw_m7 170 rfl) rfl
theorem q1712 : (Jvm.Cond.methodLink "LandFolio" (392 : Nat) ({ cls := "LandFolio$Folio", name := "load", desc := "(I)I" } : Jvm.MethodName)) ∈ lw_all := lw_g (lw_at lw_m7 171 rfl) rfl
theorem q1716 : (Jvm.Cond.methodLink "LandFolio" (395 : Nat) ({ cls := "LandFolio$Folio", name := "value", desc := "(I)I" } : Jvm.MethodName)) ∈ lw_all := lw_g (lw_at lw_m7 175 rfl) rfl
theorem q1717 : (Jvm.Cond.methodLink "LandFolio" (398 : Nat) ({ cls := "LandFolio", name := "holders", desc := "(I)I" } : Jvm.MethodName)) ∈ lw_all := lw_g (lw_at lw_m7 176 rfl) rfl
theorem q1718 : (Jvm.Cond.privateMethod ({ cls := "LandFolio", name := "holders", desc := "(I)I" } : Jvm.MethodName)) ∈ lw_tbl := lw_at lw_m7 177 rfl
theorem q1719 : (Jvm.Cond.instanceMethod ({ cls := "LandFolio", name := "holders", desc := "(I)I" } : Jvm.MethodName)) ∈ lw_all := lw_g (lw_at lw_m7 178 rfl) rfl
theorem q1720 : (Jvm.Cond.code ({ cls := "LandFolio", name := "holders", desc := "(I)I" } : Jvm.MethodName) prog_1_method_45_code (7 : Nat) (Option.some Jvm.ClassFile.FieldType.int)) ∈ lw_all := lw_g (lw_at lw_m7 179 rfl) rfl
theorem q1722 : (Jvm.Cond.instanceMethod ({ cls := "LandFolio", name := "parent", desc := "(II)I" } : Jvm.MethodName)) ∈ lw_all := lw_g (lw_at lw_m7 181 rfl) rfl
theorem q1723 : (Jvm.Cond.selects "LandFolio" ({ cls := "LandFolio", name := "parent", desc := "(II)I" } : Jvm.MethodName) ({ cls := "LandFolio", name := "parent", desc := "(II)I" } : Jvm.MethodName)) ∈ lw_all := lw_g (lw_at lw_m7 182 rfl) rfl
theorem q1724 : (Jvm.Cond.code ({ cls := "LandFolio", name := "parent", desc := "(II)I" } : Jvm.MethodName) prog_1_method_47_code (3 : Nat) (Option.some Jvm.ClassFile.FieldType.int)) ∈ lw_all := lw_g (lw_at lw_m7 183 rfl) rfl
theorem q1725 : (Jvm.Cond.methodLink "LandFolio" (401 : Nat) ({ cls := "LandFolio$Parcel", name := "parentAt", desc := "(I)I" } : Jvm.MethodName)) ∈ lw_all := lw_g (lw_at lw_m7 184 rfl) rfl
theorem q1730 : (Jvm.Cond.instanceMethod ({ cls := "LandFolio", name := "child", desc := "(II)I" } : Jvm.MethodName)) ∈ lw_all := lw_g (lw_at lw_m7 189 rfl) rfl
theorem q1731 : (Jvm.Cond.selects "LandFolio" ({ cls := "LandFolio", name := "child", desc := "(II)I" } : Jvm.MethodName) ({ cls := "LandFolio", name := "child", desc := "(II)I" } : Jvm.MethodName)) ∈ lw_all := lw_g (lw_at lw_m7 190 rfl) rfl
theorem q1732 : (Jvm.Cond.code ({ cls := "LandFolio", name := "child", desc := "(II)I" } : Jvm.MethodName) prog_1_method_48_code (6 : Nat) (Option.some Jvm.ClassFile.FieldType.int)) ∈ lw_all := lw_g (lw_at lw_m7 191 rfl) rfl
theorem q1734 : (Jvm.Cond.instanceMethod ({ cls := "LandFolio", name := "steps", desc := "(II)I" } : Jvm.MethodName)) ∈ lw_all := lw_g (lw_at lw_m7 193 rfl) rfl
theorem q1735 : (Jvm.Cond.selects "LandFolio" ({ cls := "LandFolio", name := "steps", desc := "(II)I" } : Jvm.MethodName) ({ cls := "LandFolio", name := "steps", desc := "(II)I" } : Jvm.MethodName)) ∈ lw_all := lw_g (lw_at lw_m7 194 rfl) rfl
theorem q1736 : (Jvm.Cond.code ({ cls := "LandFolio", name := "steps", desc := "(II)I" } : Jvm.MethodName) prog_1_method_50_code (3 : Nat) (Option.some Jvm.ClassFile.FieldType.int)) ∈ lw_all := lw_g (lw_at lw_m7 195 rfl) rfl
theorem q1737 : (Jvm.Cond.methodLink "LandFolio" (410 : Nat) ({ cls := "LandFolio", name := "laysSteps", desc := "(I)V" } : Jvm.MethodName)) ∈ lw_all := lw_g (lw_at lw_m7 196 rfl) rfl
theorem q1738 : (Jvm.Cond.privateMethod ({ cls := "LandFolio", name := "laysSteps", desc := "(I)V" } : Jvm.MethodName)) ∈ lw_tbl := lw_at lw_m7 197 rfl
theorem q1739 : (Jvm.Cond.instanceMethod ({ cls := "LandFolio", name := "laysSteps", desc := "(I)V" } : Jvm.MethodName)) ∈ lw_all := lw_g (lw_at lw_m7 198 rfl) rfl
theorem q1740 : (Jvm.Cond.code ({ cls := "LandFolio", name := "laysSteps", desc := "(I)V" } : Jvm.MethodName) prog_1_method_49_code (6 : Nat) (Option.none : Option Jvm.ClassFile.FieldType)) ∈ lw_all := lw_g (lw_at lw_m7 199 rfl) rfl
theorem q1742 : (Jvm.Cond.instanceMethod ({ cls := "LandFolio", name := "share", desc := "(II)I" } : Jvm.MethodName)) ∈ lw_all := lw_g (lw_at lw_m7 201 rfl) rfl
theorem q1743 : (Jvm.Cond.selects "LandFolio" ({ cls := "LandFolio", name := "share", desc := "(II)I" } : Jvm.MethodName) ({ cls := "LandFolio", name := "share", desc := "(II)I" } : Jvm.MethodName)) ∈ lw_all := lw_g (lw_at lw_m7 202 rfl) rfl
theorem q1744 : (Jvm.Cond.code ({ cls := "LandFolio", name := "share", desc := "(II)I" } : Jvm.MethodName) prog_1_method_51_code (3 : Nat) (Option.some Jvm.ClassFile.FieldType.int)) ∈ lw_all := lw_g (lw_at lw_m7 203 rfl) rfl
theorem q1746 : (Jvm.Cond.instanceMethod ({ cls := "LandFolio", name := "shareOn", desc := "(III)I" } : Jvm.MethodName)) ∈ lw_all := lw_g (lw_at lw_m7 205 rfl) rfl
theorem q1747 : (Jvm.Cond.selects "LandFolio" ({ cls := "LandFolio", name := "shareOn", desc := "(III)I" } : Jvm.MethodName) ({ cls := "LandFolio", name := "shareOn", desc := "(III)I" } : Jvm.MethodName)) ∈ lw_all := lw_g (lw_at lw_m7 206 rfl) rfl
theorem q1748 : (Jvm.Cond.code ({ cls := "LandFolio", name := "shareOn", desc := "(III)I" } : Jvm.MethodName) prog_1_method_52_code (5 : Nat) (Option.some Jvm.ClassFile.FieldType.int)) ∈ lw_all := lw_g (lw_at lw_m7 207 rfl) rfl
theorem q1749 : (Jvm.Cond.methodLink "LandFolio" (413 : Nat) ({ cls := "LandFolio$Folio", name := "deedOn", desc := "(II)LLandFolio$Deed;" } : Jvm.MethodName)) ∈ lw_all := lw_g (lw_at lw_m7 208 rfl) rfl
theorem q1751 : (Jvm.Cond.instanceMethod ({ cls := "LandFolio", name := "at", desc := "(II)I" } : Jvm.MethodName)) ∈ lw_all := lw_g (lw_at lw_m7 210 rfl) rfl
theorem q1752 : (Jvm.Cond.selects "LandFolio" ({ cls := "LandFolio", name := "at", desc := "(II)I" } : Jvm.MethodName) ({ cls := "LandFolio", name := "at", desc := "(II)I" } : Jvm.MethodName)) ∈ lw_all := lw_g (lw_at lw_m7 211 rfl) rfl
theorem q1753 : (Jvm.Cond.code ({ cls := "LandFolio", name := "at", desc := "(II)I" } : Jvm.MethodName) prog_1_method_53_code (3 : Nat) (Option.some Jvm.ClassFile.FieldType.int)) ∈ lw_all := lw_g (lw_at lw_m7 212 rfl) rfl
theorem q1755 : (Jvm.Cond.instanceMethod ({ cls := "LandFolio", name := "atDay", desc := "(III)I" } : Jvm.MethodName)) ∈ lw_all := lw_g (lw_at lw_m7 214 rfl) rfl
theorem q1756 : (Jvm.Cond.selects "LandFolio" ({ cls := "LandFolio", name := "atDay", desc := "(III)I" } : Jvm.MethodName) ({ cls := "LandFolio", name := "atDay", desc := "(III)I" } : Jvm.MethodName)) ∈ lw_all := lw_g (lw_at lw_m7 215 rfl) rfl
theorem q1757 : (Jvm.Cond.code ({ cls := "LandFolio", name := "atDay", desc := "(III)I" } : Jvm.MethodName) prog_1_method_54_code (6 : Nat) (Option.some Jvm.ClassFile.FieldType.int)) ∈ lw_all := lw_g (lw_at lw_m7 216 rfl) rfl
theorem q1758 : (Jvm.Cond.methodLink "LandFolio" (417 : Nat) ({ cls := "LandFolio$Parcel", name := "has", desc := "(II)Z" } : Jvm.MethodName)) ∈ lw_all := lw_g (lw_at lw_m7 217 rfl) rfl
theorem q1760 : (Jvm.Cond.instanceMethod ({ cls := "LandFolio", name := "neighbour", desc := "(II)I" } : Jvm.MethodName)) ∈ lw_all := lw_g (lw_at lw_m7 219 rfl) rfl
theorem q1761 : (Jvm.Cond.selects "LandFolio" ({ cls := "LandFolio", name := "neighbour", desc := "(II)I" } : Jvm.MethodName) ({ cls := "LandFolio", name := "neighbour", desc := "(II)I" } : Jvm.MethodName)) ∈ lw_all := lw_g (lw_at lw_m7 220 rfl) rfl
theorem q1762 : (Jvm.Cond.code ({ cls := "LandFolio", name := "neighbour", desc := "(II)I" } : Jvm.MethodName) prog_1_method_55_code (6 : Nat) (Option.some Jvm.ClassFile.FieldType.int)) ∈ lw_all := lw_g (lw_at lw_m7 221 rfl) rfl
theorem q1764 : (Jvm.Cond.instanceMethod ({ cls := "LandFolio", name := "edge", desc := "(II)I" } : Jvm.MethodName)) ∈ lw_all := lw_g (lw_at lw_m7 223 rfl) rfl
theorem q1765 : (Jvm.Cond.selects "LandFolio" ({ cls := "LandFolio", name := "edge", desc := "(II)I" } : Jvm.MethodName) ({ cls := "LandFolio", name := "edge", desc := "(II)I" } : Jvm.MethodName)) ∈ lw_all := lw_g (lw_at lw_m7 224 rfl) rfl
theorem q1766 : (Jvm.Cond.code ({ cls := "LandFolio", name := "edge", desc := "(II)I" } : Jvm.MethodName) prog_1_method_56_code (3 : Nat) (Option.some Jvm.ClassFile.FieldType.int)) ∈ lw_all := lw_g (lw_at lw_m7 225 rfl) rfl
theorem q1768 : (Jvm.Cond.instanceMethod ({ cls := "LandFolio", name := "letter", desc := "(II)I" } : Jvm.MethodName)) ∈ lw_all := lw_g (lw_at lw_m7 227 rfl) rfl
theorem q1769 : (Jvm.Cond.selects "LandFolio" ({ cls := "LandFolio", name := "letter", desc := "(II)I" } : Jvm.MethodName) ({ cls := "LandFolio", name := "letter", desc := "(II)I" } : Jvm.MethodName)) ∈ lw_all := lw_g (lw_at lw_m7 228 rfl) rfl
theorem q1770 : (Jvm.Cond.code ({ cls := "LandFolio", name := "letter", desc := "(II)I" } : Jvm.MethodName) prog_1_method_57_code (4 : Nat) (Option.some Jvm.ClassFile.FieldType.int)) ∈ lw_all := lw_g (lw_at lw_m7 229 rfl) rfl
theorem q1771 : (Jvm.Cond.methodLink "LandFolio" (420 : Nat) ({ cls := "java/util/ArrayList", name := "get", desc := "(I)Ljava/lang/Object;" } : Jvm.MethodName)) ∈ lw_all := lw_g (lw_at lw_m7 230 rfl) rfl
theorem q1772 : (Jvm.Cond.methodLink "LandFolio" (424 : Nat) ({ cls := "java/lang/String", name := "charAt", desc := "(I)C" } : Jvm.MethodName)) ∈ lw_all := lw_g (lw_at lw_m7 231 rfl) rfl
theorem q1784 : (Jvm.Cond.instanceMethod ({ cls := "LandFolio", name := "owned", desc := "(II)I" } : Jvm.MethodName)) ∈ lw_all := lw_g (lw_at lw_m8 3 rfl) rfl
theorem q1785 : (Jvm.Cond.selects "LandFolio" ({ cls := "LandFolio", name := "owned", desc := "(II)I" } : Jvm.MethodName) ({ cls := "LandFolio", name := "owned", desc := "(II)I" } : Jvm.MethodName)) ∈ lw_all := lw_g (lw_at lw_m8 4 rfl) rfl
theorem q1786 : (Jvm.Cond.code ({ cls := "LandFolio", name := "owned", desc := "(II)I" } : Jvm.MethodName) prog_1_method_60_code (3 : Nat) (Option.some Jvm.ClassFile.FieldType.int)) ∈ lw_all := lw_g (lw_at lw_m8 5 rfl) rfl
theorem q1787 : (Jvm.Cond.methodLink "LandFolio" (431 : Nat) ({ cls := "LandFolio", name := "held", desc := "(I)I" } : Jvm.MethodName)) ∈ lw_all := lw_g (lw_at lw_m8 6 rfl) rfl
theorem q1788 : (Jvm.Cond.privateMethod ({ cls := "LandFolio", name := "held", desc := "(I)I" } : Jvm.MethodName)) ∈ lw_tbl := lw_at lw_m8 7 rfl
theorem q1789 : (Jvm.Cond.instanceMethod ({ cls := "LandFolio", name := "held", desc := "(I)I" } : Jvm.MethodName)) ∈ lw_all := lw_g (lw_at lw_m8 8 rfl) rfl
theorem q1790 : (Jvm.Cond.code ({ cls := "LandFolio", name := "held", desc := "(I)I" } : Jvm.MethodName) prog_1_method_58_code (6 : Nat) (Option.some Jvm.ClassFile.FieldType.int)) ∈ lw_all := lw_g (lw_at lw_m8 9 rfl) rfl
theorem q1791 : (Jvm.Cond.methodLink "LandFolio" (434 : Nat) ({ cls := "LandFolio", name := "over", desc := "(II)I" } : Jvm.MethodName)) ∈ lw_all := lw_g (lw_at lw_m8 10 rfl) rfl
theorem q1792 : (Jvm.Cond.privateMethod ({ cls := "LandFolio", name := "over", desc := "(II)I" } : Jvm.MethodName)) ∈ lw_tbl := lw_at lw_m8 11 rfl
theorem q1793 : (Jvm.Cond.instanceMethod ({ cls := "LandFolio", name := "over", desc := "(II)I" } : Jvm.MethodName)) ∈ lw_all := lw_g (lw_at lw_m8 12 rfl) rfl
theorem q1794 : (Jvm.Cond.code ({ cls := "LandFolio", name := "over", desc := "(II)I" } : Jvm.MethodName) prog_1_method_59_code (6 : Nat) (Option.some Jvm.ClassFile.FieldType.int)) ∈ lw_all := lw_g (lw_at lw_m8 13 rfl) rfl
theorem q1796 : (Jvm.Cond.instanceMethod ({ cls := "LandFolio", name := "richest", desc := "()I" } : Jvm.MethodName)) ∈ lw_all := lw_g (lw_at lw_m8 15 rfl) rfl
theorem q1797 : (Jvm.Cond.selects "LandFolio" ({ cls := "LandFolio", name := "richest", desc := "()I" } : Jvm.MethodName) ({ cls := "LandFolio", name := "richest", desc := "()I" } : Jvm.MethodName)) ∈ lw_all := lw_g (lw_at lw_m8 16 rfl) rfl
theorem q1798 : (Jvm.Cond.code ({ cls := "LandFolio", name := "richest", desc := "()I" } : Jvm.MethodName) prog_1_method_61_code (3 : Nat) (Option.some Jvm.ClassFile.FieldType.int)) ∈ lw_all := lw_g (lw_at lw_m8 17 rfl) rfl
theorem q1800 : (Jvm.Cond.instanceMethod ({ cls := "LandFolio", name := "burden", desc := "(II)I" } : Jvm.MethodName)) ∈ lw_all := lw_g (lw_at lw_m8 19 rfl) rfl
theorem q1801 : (Jvm.Cond.selects "LandFolio" ({ cls := "LandFolio", name := "burden", desc := "(II)I" } : Jvm.MethodName) ({ cls := "LandFolio", name := "burden", desc := "(II)I" } : Jvm.MethodName)) ∈ lw_all := lw_g (lw_at lw_m8 20 rfl) rfl
theorem q1802 : (Jvm.Cond.code ({ cls := "LandFolio", name := "burden", desc := "(II)I" } : Jvm.MethodName) prog_1_method_63_code (4 : Nat) (Option.some Jvm.ClassFile.FieldType.int)) ∈ lw_all := lw_g (lw_at lw_m8 21 rfl) rfl
theorem q1803 : (Jvm.Cond.methodLink "LandFolio" (439 : Nat) ({ cls := "LandFolio", name := "special", desc := "(LLandFolio$Burden;I)I" } : Jvm.MethodName)) ∈ lw_all := lw_g (lw_at lw_m8 22 rfl) rfl
theorem q1804 : (Jvm.Cond.privateMethod ({ cls := "LandFolio", name := "special", desc := "(LLandFolio$Burden;I)I" } : Jvm.MethodName)) ∈ lw_tbl := lw_at lw_m8 23 rfl
theorem q1805 : (Jvm.Cond.instanceMethod ({ cls := "LandFolio", name := "special", desc := "(LLandFolio$Burden;I)I" } : Jvm.MethodName)) ∈ lw_all := lw_g (lw_at lw_m8 24 rfl) rfl
theorem q1806 : (Jvm.Cond.code ({ cls := "LandFolio", name := "special", desc := "(LLandFolio$Burden;I)I" } : Jvm.MethodName) prog_1_method_62_code (4 : Nat) (Option.some Jvm.ClassFile.FieldType.int)) ∈ lw_all := lw_g (lw_at lw_m8 25 rfl) rfl
theorem q1807 : (Jvm.Cond.methodLink "LandFolio" (442 : Nat) ({ cls := "LandFolio$Burden", name := "came", desc := "()I" } : Jvm.MethodName)) ∈ lw_all := lw_g (lw_at lw_m8 26 rfl) rfl
theorem q1809 : (Jvm.Cond.instanceMethod ({ cls := "LandFolio", name := "burdenOf", desc := "(II)I" } : Jvm.MethodName)) ∈ lw_all := lw_g (lw_at lw_m8 28 rfl) rfl
theorem q1810 : (Jvm.Cond.selects "LandFolio" ({ cls := "LandFolio", name := "burdenOf", desc := "(II)I" } : Jvm.MethodName) ({ cls := "LandFolio", name := "burdenOf", desc := "(II)I" } : Jvm.MethodName)) ∈ lw_all := lw_g (lw_at lw_m8 29 rfl) rfl
theorem q1811 : (Jvm.Cond.code ({ cls := "LandFolio", name := "burdenOf", desc := "(II)I" } : Jvm.MethodName) prog_1_method_64_code (6 : Nat) (Option.some Jvm.ClassFile.FieldType.int)) ∈ lw_all := lw_g (lw_at lw_m8 30 rfl) rfl
theorem q1812 : (Jvm.Cond.methodLink "LandFolio" (444 : Nat) ({ cls := "LandFolio$Burden", name := "number", desc := "()I" } : Jvm.MethodName)) ∈ lw_all := lw_g (lw_at lw_m8 31 rfl) rfl
theorem q1814 : (Jvm.Cond.instanceMethod ({ cls := "LandFolio", name := "lies", desc := "(II)I" } : Jvm.MethodName)) ∈ lw_all := lw_g (lw_at lw_m8 33 rfl) rfl
theorem q1815 : (Jvm.Cond.selects "LandFolio" ({ cls := "LandFolio", name := "lies", desc := "(II)I" } : Jvm.MethodName) ({ cls := "LandFolio", name := "lies", desc := "(II)I" } : Jvm.MethodName)) ∈ lw_all := lw_g (lw_at lw_m8 34 rfl) rfl
theorem q1816 : (Jvm.Cond.code ({ cls := "LandFolio", name := "lies", desc := "(II)I" } : Jvm.MethodName) prog_1_method_65_code (6 : Nat) (Option.some Jvm.ClassFile.FieldType.int)) ∈ lw_all := lw_g (lw_at lw_m8 35 rfl) rfl
theorem q1817 : (Jvm.Cond.methodLink "LandFolio" (447 : Nat) ({ cls := "java/util/BitSet", name := "nextSetBit", desc := "(I)I" } : Jvm.MethodName)) ∈ lw_all := lw_g (lw_at lw_m8 36 rfl) rfl
theorem q1819 : (Jvm.Cond.instanceMethod ({ cls := "LandFolio", name := "rank", desc := "(II)I" } : Jvm.MethodName)) ∈ lw_all := lw_g (lw_at lw_m8 38 rfl) rfl
theorem q1820 : (Jvm.Cond.selects "LandFolio" ({ cls := "LandFolio", name := "rank", desc := "(II)I" } : Jvm.MethodName) ({ cls := "LandFolio", name := "rank", desc := "(II)I" } : Jvm.MethodName)) ∈ lw_all := lw_g (lw_at lw_m8 39 rfl) rfl
theorem q1821 : (Jvm.Cond.code ({ cls := "LandFolio", name := "rank", desc := "(II)I" } : Jvm.MethodName) prog_1_method_66_code (6 : Nat) (Option.some Jvm.ClassFile.FieldType.int)) ∈ lw_all := lw_g (lw_at lw_m8 40 rfl) rfl
theorem q1824 : (Jvm.Cond.instanceMethod ({ cls := "LandFolio", name := "joinable", desc := "(II)I" } : Jvm.MethodName)) ∈ lw_all := lw_g (lw_at lw_m8 43 rfl) rfl
theorem q1825 : (Jvm.Cond.selects "LandFolio" ({ cls := "LandFolio", name := "joinable", desc := "(II)I" } : Jvm.MethodName) ({ cls := "LandFolio", name := "joinable", desc := "(II)I" } : Jvm.MethodName)) ∈ lw_all := lw_g (lw_at lw_m8 44 rfl) rfl
theorem q1826 : (Jvm.Cond.code ({ cls := "LandFolio", name := "joinable", desc := "(II)I" } : Jvm.MethodName) prog_1_method_68_code (6 : Nat) (Option.some Jvm.ClassFile.FieldType.int)) ∈ lw_all := lw_g (lw_at lw_m8 45 rfl) rfl
theorem q1828 : (Jvm.Cond.instanceMethod ({ cls := "LandFolio", name := "ifSplit", desc := "(IIII)I" } : Jvm.MethodName)) ∈ lw_all := lw_g (lw_at lw_m8 47 rfl) rfl
theorem q1829 : (Jvm.Cond.selects "LandFolio" ({ cls := "LandFolio", name := "ifSplit", desc := "(IIII)I" } : Jvm.MethodName) ({ cls := "LandFolio", name := "ifSplit", desc := "(IIII)I" } : Jvm.MethodName)) ∈ lw_all := lw_g (lw_at lw_m8 48 rfl) rfl
theorem q1830 : (Jvm.Cond.code ({ cls := "LandFolio", name := "ifSplit", desc := "(IIII)I" } : Jvm.MethodName) prog_1_method_71_code (9 : Nat) (Option.some Jvm.ClassFile.FieldType.int)) ∈ lw_all := lw_g (lw_at lw_m8 49 rfl) rfl
theorem q1831 : (Jvm.Cond.methodLink "LandFolio" (467 : Nat) ({ cls := "LandFolio", name := "burdensOfPiece", desc := "(IIIZ)I" } : Jvm.MethodName)) ∈ lw_all := lw_g (lw_at lw_m8 50 rfl) rfl
theorem q1832 : (Jvm.Cond.privateMethod ({ cls := "LandFolio", name := "burdensOfPiece", desc := "(IIIZ)I" } : Jvm.MethodName)) ∈ lw_tbl := lw_at lw_m8 51 rfl
theorem q1833 : (Jvm.Cond.instanceMethod ({ cls := "LandFolio", name := "burdensOfPiece", desc := "(IIIZ)I" } : Jvm.MethodName)) ∈ lw_all := lw_g (lw_at lw_m8 52 rfl) rfl
theorem q1834 : (Jvm.Cond.code ({ cls := "LandFolio", name := "burdensOfPiece", desc := "(IIIZ)I" } : Jvm.MethodName) prog_1_method_70_code (9 : Nat) (Option.some Jvm.ClassFile.FieldType.int)) ∈ lw_all := lw_g (lw_at lw_m8 53 rfl) rfl
theorem q1835 : (Jvm.Cond.methodLink "LandFolio" (463 : Nat) ({ cls := "LandFolio", name := "isOnPiece", desc := "(LLandFolio$Parcel;LLandFolio$Path;IIZ)Z" } : Jvm.MethodName)) ∈ lw_all := lw_g (lw_at lw_m8 54 rfl) rfl
theorem q1836 : (Jvm.Cond.static ({ cls := "LandFolio", name := "isOnPiece", desc := "(LLandFolio$Parcel;LLandFolio$Path;IIZ)Z" } : Jvm.MethodName)) ∈ lw_all := lw_g (lw_at lw_m8 55 rfl) rfl
theorem q1837 : (Jvm.Cond.code ({ cls := "LandFolio", name := "isOnPiece", desc := "(LLandFolio$Parcel;LLandFolio$Path;IIZ)Z" } : Jvm.MethodName) prog_1_method_69_code (6 : Nat) (Option.some Jvm.ClassFile.FieldType.boolean)) ∈ lw_all := lw_g (lw_at lw_m8 56 rfl) rfl
theorem q1838 : (Jvm.Cond.methodLink "LandFolio" (471 : Nat) ({ cls := "java/lang/Math", name := "max", desc := "(II)I" } : Jvm.MethodName)) ∈ lw_all := lw_g (lw_at lw_m8 57 rfl) rfl
theorem q1840 : (Jvm.Cond.instanceMethod ({ cls := "LandFolio", name := "ifFreed", desc := "(II)I" } : Jvm.MethodName)) ∈ lw_all := lw_g (lw_at lw_m8 59 rfl) rfl
theorem q1841 : (Jvm.Cond.selects "LandFolio" ({ cls := "LandFolio", name := "ifFreed", desc := "(II)I" } : Jvm.MethodName) ({ cls := "LandFolio", name := "ifFreed", desc := "(II)I" } : Jvm.MethodName)) ∈ lw_all := lw_g (lw_at lw_m8 60 rfl) rfl
theorem q1842 : (Jvm.Cond.code ({ cls := "LandFolio", name := "ifFreed", desc := "(II)I" } : Jvm.MethodName) prog_1_method_73_code (3 : Nat) (Option.some Jvm.ClassFile.FieldType.int)) ∈ lw_all := lw_g (lw_at lw_m8 61 rfl) rfl
theorem q1843 : (Jvm.Cond.methodLink "LandFolio" (475 : Nat) ({ cls := "LandFolio", name := "isDebtOn", desc := "(II)Z" } : Jvm.MethodName)) ∈ lw_all := lw_g (lw_at lw_m8 62 rfl) rfl
theorem q1844 : (Jvm.Cond.privateMethod ({ cls := "LandFolio", name := "isDebtOn", desc := "(II)Z" } : Jvm.MethodName)) ∈ lw_tbl := lw_at lw_m8 63 rfl
theorem q1845 : (Jvm.Cond.instanceMethod ({ cls := "LandFolio", name := "isDebtOn", desc := "(II)Z" } : Jvm.MethodName)) ∈ lw_all := lw_g (lw_at lw_m8 64 rfl) rfl
theorem q1846 : (Jvm.Cond.code ({ cls := "LandFolio", name := "isDebtOn", desc := "(II)Z" } : Jvm.MethodName) prog_1_method_72_code (5 : Nat) (Option.some Jvm.ClassFile.FieldType.boolean)) ∈ lw_all := lw_g (lw_at lw_m8 65 rfl) rfl
theorem q1847 : (Jvm.Cond.methodLink "LandFolio" (474 : Nat) ({ cls := "LandFolio$Debt", name := "isOn", desc := "(I)Z" } : Jvm.MethodName)) ∈ lw_all := lw_g (lw_at lw_m8 66 rfl) rfl
theorem q1849 : (Jvm.Cond.instanceMethod ({ cls := "LandFolio", name := "ifSold", desc := "(III)I" } : Jvm.MethodName)) ∈ lw_all := lw_g (lw_at lw_m8 68 rfl) rfl
theorem q1850 : (Jvm.Cond.selects "LandFolio" ({ cls := "LandFolio", name := "ifSold", desc := "(III)I" } : Jvm.MethodName) ({ cls := "LandFolio", name := "ifSold", desc := "(III)I" } : Jvm.MethodName)) ∈ lw_all := lw_g (lw_at lw_m8 69 rfl) rfl
theorem q1851 : (Jvm.Cond.code ({ cls := "LandFolio", name := "ifSold", desc := "(III)I" } : Jvm.MethodName) prog_1_method_74_code (9 : Nat) (Option.some Jvm.ClassFile.FieldType.int)) ∈ lw_all := lw_g (lw_at lw_m8 70 rfl) rfl
theorem q1852 : (Jvm.Cond.constant "LandFolio" (478 : Nat) (99999 : Int32)) ∈ lw_all := lw_g (lw_at lw_m8 71 rfl) rfl
theorem q1853 : (Jvm.Cond.methodLink "LandFolio" (479 : Nat) ({ cls := "LandFolio$Debt", name := "number", desc := "()I" } : Jvm.MethodName)) ∈ lw_all := lw_g (lw_at lw_m8 72 rfl) rfl
theorem q1855 : (Jvm.Cond.instanceMethod ({ cls := "LandFolio", name := "leastPrice", desc := "()I" } : Jvm.MethodName)) ∈ lw_all := lw_g (lw_at lw_m8 74 rfl) rfl
theorem q1856 : (Jvm.Cond.selects "LandFolio" ({ cls := "LandFolio", name := "leastPrice", desc := "()I" } : Jvm.MethodName) ({ cls := "LandFolio", name := "leastPrice", desc := "()I" } : Jvm.MethodName)) ∈ lw_all := lw_g (lw_at lw_m8 75 rfl) rfl
theorem q1857 : (Jvm.Cond.code ({ cls := "LandFolio", name := "leastPrice", desc := "()I" } : Jvm.MethodName) prog_1_method_75_code (4 : Nat) (Option.some Jvm.ClassFile.FieldType.int)) ∈ lw_all := lw_g (lw_at lw_m8 76 rfl) rfl
theorem q1859 : (Jvm.Cond.instanceMethod ({ cls := "LandFolio", name := "evenest", desc := "(I)I" } : Jvm.MethodName)) ∈ lw_all := lw_g (lw_at lw_m8 78 rfl) rfl
theorem q1860 : (Jvm.Cond.selects "LandFolio" ({ cls := "LandFolio", name := "evenest", desc := "(I)I" } : Jvm.MethodName) ({ cls := "LandFolio", name := "evenest", desc := "(I)I" } : Jvm.MethodName)) ∈ lw_all := lw_g (lw_at lw_m8 79 rfl) rfl
theorem q1861 : (Jvm.Cond.code ({ cls := "LandFolio", name := "evenest", desc := "(I)I" } : Jvm.MethodName) prog_1_method_76_code (8 : Nat) (Option.some Jvm.ClassFile.FieldType.int)) ∈ lw_all := lw_g (lw_at lw_m8 80 rfl) rfl
theorem q1862 : (Jvm.Cond.methodLink "LandFolio" (480 : Nat) ({ cls := "java/lang/Math", name := "abs", desc := "(I)I" } : Jvm.MethodName)) ∈ lw_all := lw_g (lw_at lw_m8 81 rfl) rfl
theorem q1866 : (Jvm.Cond.instanceMethod ({ cls := "LandFolio", name := "log", desc := "(II)I" } : Jvm.MethodName)) ∈ lw_all := lw_g (lw_at lw_m8 85 rfl) rfl
theorem q1867 : (Jvm.Cond.selects "LandFolio" ({ cls := "LandFolio", name := "log", desc := "(II)I" } : Jvm.MethodName) ({ cls := "LandFolio", name := "log", desc := "(II)I" } : Jvm.MethodName)) ∈ lw_all := lw_g (lw_at lw_m8 86 rfl) rfl
theorem q1868 : (Jvm.Cond.code ({ cls := "LandFolio", name := "log", desc := "(II)I" } : Jvm.MethodName) prog_1_method_77_code (3 : Nat) (Option.some Jvm.ClassFile.FieldType.int)) ∈ lw_all := lw_g (lw_at lw_m8 87 rfl) rfl
theorem q1869 : (Jvm.Cond.classLink "LandFolio" (483 : Nat) "LandFolio$Entry") ∈ lw_all := lw_g (lw_at lw_m8 88 rfl) rfl
theorem q1870 : (Jvm.Cond.methodLink "LandFolio" (485 : Nat) ({ cls := "LandFolio$Entry", name := "part", desc := "(I)I" } : Jvm.MethodName)) ∈ lw_all := lw_g (lw_at lw_m8 89 rfl) rfl
theorem q1875 : (Jvm.Cond.instanceMethod ({ cls := "LandFolio", name := "loaded", desc := "(I)F" } : Jvm.MethodName)) ∈ lw_all := lw_g (lw_at lw_m8 94 rfl) rfl
theorem q1876 : (Jvm.Cond.selects "LandFolio" ({ cls := "LandFolio", name := "loaded", desc := "(I)F" } : Jvm.MethodName) ({ cls := "LandFolio", name := "loaded", desc := "(I)F" } : Jvm.MethodName)) ∈ lw_all := lw_g (lw_at lw_m8 95 rfl) rfl
theorem q1877 : (Jvm.Cond.code ({ cls := "LandFolio", name := "loaded", desc := "(I)F" } : Jvm.MethodName) prog_1_method_78_code (2 : Nat) (Option.some Jvm.ClassFile.FieldType.float)) ∈ lw_all := lw_g (lw_at lw_m8 96 rfl) rfl
theorem q1878 : (Jvm.Cond.constantFloat "LandFolio" (488 : Nat) (3212836864 : UInt32)) ∈ lw_all := lw_g (lw_at lw_m8 97 rfl) rfl
theorem q1880 : (Jvm.Cond.instanceMethod ({ cls := "LandFolio", name := "meanArea", desc := "()D" } : Jvm.MethodName)) ∈ lw_all := lw_g (lw_at lw_m8 99 rfl) rfl
theorem q1881 : (Jvm.Cond.selects "LandFolio" ({ cls := "LandFolio", name := "meanArea", desc := "()D" } : Jvm.MethodName) ({ cls := "LandFolio", name := "meanArea", desc := "()D" } : Jvm.MethodName)) ∈ lw_all := lw_g (lw_at lw_m8 100 rfl) rfl
theorem q1882 : (Jvm.Cond.code ({ cls := "LandFolio", name := "meanArea", desc := "()D" } : Jvm.MethodName) prog_1_method_79_code (1 : Nat) (Option.some Jvm.ClassFile.FieldType.double)) ∈ lw_all := lw_g (lw_at lw_m8 101 rfl) rfl
theorem q1884 : (Jvm.Cond.instanceMethod ({ cls := "LandFolio", name := "mapLength", desc := "()I" } : Jvm.MethodName)) ∈ lw_all := lw_g (lw_at lw_m8 103 rfl) rfl
theorem q1885 : (Jvm.Cond.selects "LandFolio" ({ cls := "LandFolio", name := "mapLength", desc := "()I" } : Jvm.MethodName) ({ cls := "LandFolio", name := "mapLength", desc := "()I" } : Jvm.MethodName)) ∈ lw_all := lw_g (lw_at lw_m8 104 rfl) rfl
theorem q1886 : (Jvm.Cond.code ({ cls := "LandFolio", name := "mapLength", desc := "()I" } : Jvm.MethodName) prog_1_method_84_code (1 : Nat) (Option.some Jvm.ClassFile.FieldType.int)) ∈ lw_all := lw_g (lw_at lw_m8 105 rfl) rfl
theorem q1887 : (Jvm.Cond.methodLink "LandFolio" (500 : Nat) ({ cls := "LandFolio", name := "map", desc := "()Ljava/lang/StringBuilder;" } : Jvm.MethodName)) ∈ lw_all := lw_g (lw_at lw_m8 106 rfl) rfl
theorem q1888 : (Jvm.Cond.privateMethod ({ cls := "LandFolio", name := "map", desc := "()Ljava/lang/StringBuilder;" } : Jvm.MethodName)) ∈ lw_tbl := lw_at lw_m8 107 rfl
theorem q1889 : (Jvm.Cond.instanceMethod ({ cls := "LandFolio", name := "map", desc := "()Ljava/lang/StringBuilder;" } : Jvm.MethodName)) ∈ lw_all := lw_g (lw_at lw_m8 108 rfl) rfl
theorem q1890 : (Jvm.Cond.code ({ cls := "LandFolio", name := "map", desc := "()Ljava/lang/StringBuilder;" } : Jvm.MethodName) prog_1_method_81_code (4 : Nat) (Option.some (Jvm.ClassFile.FieldType.object "java/lang/StringBuilder"))) ∈ lw_all := lw_g (lw_at lw_m8 109 rfl) rfl
theorem q1891 : (Jvm.Cond.methodLink "LandFolio" (489 : Nat) ({ cls := "LandFolio", name := "sign", desc := "(I)C" } : Jvm.MethodName)) ∈ lw_all := lw_g (lw_at lw_m8 110 rfl) rfl
theorem q1892 : (Jvm.Cond.static ({ cls := "LandFolio", name := "sign", desc := "(I)C" } : Jvm.MethodName)) ∈ lw_all := lw_g (lw_at lw_m8 111 rfl) rfl
theorem q1893 : (Jvm.Cond.code ({ cls := "LandFolio", name := "sign", desc := "(I)C" } : Jvm.MethodName) prog_1_method_80_code (1 : Nat) (Option.some Jvm.ClassFile.FieldType.char)) ∈ lw_all := lw_g (lw_at lw_m8 112 rfl) rfl
theorem q1894 : (Jvm.Cond.methodLink "LandFolio" (498 : Nat) ({ cls := "java/lang/StringBuilder", name := "length", desc := "()I" } : Jvm.MethodName)) ∈ lw_all := lw_g (lw_at lw_m8 113 rfl) rfl
theorem q1896 : (Jvm.Cond.instanceMethod ({ cls := "LandFolio", name := "mapByte", desc := "(I)I" } : Jvm.MethodName)) ∈ lw_all := lw_g (lw_at lw_m8 115 rfl) rfl
theorem q1897 : (Jvm.Cond.selects "LandFolio" ({ cls := "LandFolio", name := "mapByte", desc := "(I)I" } : Jvm.MethodName) ({ cls := "LandFolio", name := "mapByte", desc := "(I)I" } : Jvm.MethodName)) ∈ lw_all := lw_g (lw_at lw_m8 116 rfl) rfl
theorem q1898 : (Jvm.Cond.code ({ cls := "LandFolio", name := "mapByte", desc := "(I)I" } : Jvm.MethodName) prog_1_method_85_code (2 : Nat) (Option.some Jvm.ClassFile.FieldType.int)) ∈ lw_all := lw_g (lw_at lw_m8 117 rfl) rfl
theorem q1899 : (Jvm.Cond.methodLink "LandFolio" (504 : Nat) ({ cls := "LandFolio", name := "byteOf", desc := "(Ljava/lang/StringBuilder;I)I" } : Jvm.MethodName)) ∈ lw_all := lw_g (lw_at lw_m8 118 rfl) rfl
theorem q1900 : (Jvm.Cond.static ({ cls := "LandFolio", name := "byteOf", desc := "(Ljava/lang/StringBuilder;I)I" } : Jvm.MethodName)) ∈ lw_all := lw_g (lw_at lw_m8 119 rfl) rfl
theorem q1901 : (Jvm.Cond.code ({ cls := "LandFolio", name := "byteOf", desc := "(Ljava/lang/StringBuilder;I)I" } : Jvm.MethodName) prog_1_method_83_code (2 : Nat) (Option.some Jvm.ClassFile.FieldType.int)) ∈ lw_all := lw_g (lw_at lw_m8 120 rfl) rfl
theorem q1902 : (Jvm.Cond.methodLink "LandFolio" (499 : Nat) ({ cls := "java/lang/StringBuilder", name := "charAt", desc := "(I)C" } : Jvm.MethodName)) ∈ lw_all := lw_g (lw_at lw_m8 121 rfl) rfl
theorem q1913 : (Jvm.Cond.instanceMethod ({ cls := "LandFolio", name := "extractLength", desc := "(I)I" } : Jvm.MethodName)) ∈ lw_all := lw_g (lw_at lw_m8 132 rfl) rfl
theorem q1914 : (Jvm.Cond.selects "LandFolio" ({ cls := "LandFolio", name := "extractLength", desc := "(I)I" } : Jvm.MethodName) ({ cls := "LandFolio", name := "extractLength", desc := "(I)I" } : Jvm.MethodName)) ∈ lw_all := lw_g (lw_at lw_m8 133 rfl) rfl
theorem q1915 : (Jvm.Cond.code ({ cls := "LandFolio", name := "extractLength", desc := "(I)I" } : Jvm.MethodName) prog_1_method_86_code (2 : Nat) (Option.some Jvm.ClassFile.FieldType.int)) ∈ lw_all := lw_g (lw_at lw_m8 134 rfl) rfl
theorem q1916 : (Jvm.Cond.methodLink "LandFolio" (508 : Nat) ({ cls := "LandFolio", name := "extract", desc := "(I)Ljava/lang/StringBuilder;" } : Jvm.MethodName)) ∈ lw_all := lw_g (lw_at lw_m8 135 rfl) rfl
theorem q1917 : (Jvm.Cond.privateMethod ({ cls := "LandFolio", name := "extract", desc := "(I)Ljava/lang/StringBuilder;" } : Jvm.MethodName)) ∈ lw_tbl := lw_at lw_m8 136 rfl
theorem q1918 : (Jvm.Cond.instanceMethod ({ cls := "LandFolio", name := "extract", desc := "(I)Ljava/lang/StringBuilder;" } : Jvm.MethodName)) ∈ lw_all := lw_g (lw_at lw_m8 137 rfl) rfl
theorem q1919 : (Jvm.Cond.code ({ cls := "LandFolio", name := "extract", desc := "(I)Ljava/lang/StringBuilder;" } : Jvm.MethodName) prog_1_method_82_code (8 : Nat) (Option.some (Jvm.ClassFile.FieldType.object "java/lang/StringBuilder"))) ∈ lw_all := lw_g (lw_at lw_m8 138 rfl) rfl
theorem q1920 : (Jvm.Cond.methodLink "LandFolio" (492 : Nat) ({ cls := "java/lang/StringBuilder", name := "append", desc := "(Ljava/lang/String;)Ljava/lang/StringBuilder;" } : Jvm.MethodName)) ∈ lw_all := lw_g (lw_at lw_m8 139 rfl) rfl
theorem q1959 : (Jvm.Cond.methodLink "LandFolio" (495 : Nat) ({ cls := "java/lang/StringBuilder", name := "append", desc := "(I)Ljava/lang/StringBuilder;" } : Jvm.MethodName)) ∈ lw_all := lw_g (lw_at lw_m8 178 rfl) rfl
theorem q1985 : (Jvm.Cond.instanceMethod ({ cls := "LandFolio", name := "extractByte", desc := "(II)I" } : Jvm.MethodName)) ∈ lw_all := lw_g (lw_at lw_m8 204 rfl) rfl
theorem q1986 : (Jvm.Cond.selects "LandFolio" ({ cls := "LandFolio", name := "extractByte", desc := "(II)I" } : Jvm.MethodName) ({ cls := "LandFolio", name := "extractByte", desc := "(II)I" } : Jvm.MethodName)) ∈ lw_all := lw_g (lw_at lw_m8 205 rfl) rfl
theorem q1987 : (Jvm.Cond.code ({ cls := "LandFolio", name := "extractByte", desc := "(II)I" } : Jvm.MethodName) prog_1_method_87_code (3 : Nat) (Option.some Jvm.ClassFile.FieldType.int)) ∈ lw_all := lw_g (lw_at lw_m8 206 rfl) rfl
theorem q2620 : (Jvm.Cond.castable "LandFolio" "java/lang/Object") ∈ lw_tbl := lw_at lw_m11 119 rfl
theorem in_X0 : ∀ w ∈ wsX00, w ∈ lw_all := lw_in wsX00 [411, 413, 415, 417, 419, 421, 423] (by decide +kernel) (by decide +kernel)
