/-! walks, printed by gen/run.py -/
theorem md_J0_init : yJ0_init.cls ≠ "java/lang/invoke/MethodHandle" ∧ yJ0_init.cls ≠ "java/lang/invoke/VarHandle" ∧ (parseMethodDescriptor yJ0_init.desc).map (fun d => d.parameters.length) = some 0 := by decide +kernel
theorem wk_J0_init (l : Launch) {D : zk_G} {g : zk_M} {b0 : Nat} {post : Prop} {this : Nat} {P : zk_H} (hh : wp_J0_init post this) : Met l yJ0_init (ws_ yJ0_init cJ0_init 1 none) ({ frames := 1, cells := 0, slots := 0, locals := 20 } : Room) (va_Pc [.ref this] (zk_pre D g b0 P)) (va_Qv (fun u => post ∧ u = P) (zk_B D b0) (zk_A b0)) 0 0 (zk_A b0) := by
  refine zk_enter "java/util/AbstractCollection" "<init>" rfl rfl (plainFor_of_name (by decide)) [.ref this] (Nat.le_of_ble_eq_true rfl) ?_
  intro p e s m args below meth c X
  refine zk_at0 (L' := [(0, va_rf (some this))]) (rfl) ?_
  have h := hh
  unfold wp_J0_init at h
  refine zv_aload_n X 0 dJ0_init_0 rfl ?_
  refine zv_objInit X q168 dJ0_init_1 (by decide) (by decide) (by decide) ?_
  exact zv_vret X rfl (by first | exact Nat.le_of_ble_eq_true rfl | omega | (dsimp only; omega)) (by first | exact Nat.le_of_ble_eq_true rfl | omega | (dsimp only; omega)) dJ0_init_4 ⟨h, rfl⟩
theorem md_J1_init : yJ1_init.cls ≠ "java/lang/invoke/MethodHandle" ∧ yJ1_init.cls ≠ "java/lang/invoke/VarHandle" ∧ (parseMethodDescriptor yJ1_init.desc).map (fun d => d.parameters.length) = some 0 := by decide +kernel
theorem wk_J1_init (l : Launch) {D : zk_G} {g : zk_M} {b0 : Nat} {post : zk_H → Prop} {this : Nat} {P : zk_H} (hh : wp_J1_init post this P) : Met l yJ1_init (ws_ yJ1_init cJ1_init 1 none) ({ frames := 2, cells := 0, slots := 0, locals := 40 } : Room) (va_Pc [.ref this] (zk_pre D g b0 P)) (va_Qv post (zk_B D b0) (zk_A b0)) 0 0 (zk_A b0) := by
  refine zk_enter "java/util/AbstractList" "<init>" rfl rfl (plainFor_of_name (by decide)) [.ref this] (Nat.le_of_ble_eq_true rfl) ?_
  intro p e s m args below meth c X
  refine zk_at0 (L' := [(0, va_rf (some this))]) (rfl) ?_
  have h := hh
  unfold wp_J1_init at h
  refine zv_aload_n X 0 dJ1_init_0 rfl ?_
  refine zv_cvR ((zr_I X (As := []) (rest := []) (wk_J0_init l h) (cwI 0 X.hts (lw_meth q167) rfl rfl rfl (X.w q104) (X.w q165) (X.w q166) rfl md_J0_init ⟨Nat.le_of_ble_eq_true rfl, Nat.le_of_ble_eq_true rfl⟩) rfl rfl (zk_rs (Nat.le_of_ble_eq_true rfl)) dJ1_init_1 ⟨by first | exact Nat.le_of_ble_eq_true rfl | omega | (dsimp only; omega), by first | exact Nat.le_of_ble_eq_true rfl | omega | (dsimp only; omega)⟩)) (fun h => ?_)
  refine zv_aload_n X 0 dJ1_init_4 rfl ?_
  refine zv_iconst X (v := 0) dJ1_init_5 rfl ?_
  refine zv_put_i X fp_q173 (fun z => by cases z) dJ1_init_6 h (fun P6 h => ?_)
  exact zv_vret X rfl (by first | exact Nat.le_of_ble_eq_true rfl | omega | (dsimp only; omega)) (by first | exact Nat.le_of_ble_eq_true rfl | omega | (dsimp only; omega)) dJ1_init_9 h
theorem md_J2_init : yJ2_init.cls ≠ "java/lang/invoke/MethodHandle" ∧ yJ2_init.cls ≠ "java/lang/invoke/VarHandle" ∧ (parseMethodDescriptor yJ2_init.desc).map (fun d => d.parameters.length) = some 0 := by decide +kernel
theorem wk_J2_init (l : Launch) {D : zk_G} {g : zk_M} {b0 : Nat} {post : zk_H → Prop} {this : Nat} {P : zk_H} (hh : wp_J2_init g post this P) : Met l yJ2_init (ws_ yJ2_init cJ2_init 1 none) ({ frames := 3, cells := 0, slots := 0, locals := 60 } : Room) (va_Pc [.ref this] (zk_pre D g b0 P)) (va_Qv post (zk_B D b0) (zk_A b0)) 0 0 (zk_A b0) := by
  refine zk_enter "java/util/ArrayList" "<init>" rfl rfl (plainFor_of_name (by decide)) [.ref this] (Nat.le_of_ble_eq_true rfl) ?_
  intro p e s m args below meth c X
  refine zk_at0 (L' := [(0, va_rf (some this))]) (rfl) ?_
  have h := hh
  unfold wp_J2_init at h
  refine zv_aload_n X 0 dJ2_init_0 rfl ?_
  refine zv_cv ((zr_I X (As := []) (rest := []) (wk_J1_init l h) (cwI 0 X.hts (lw_meth q164) rfl rfl rfl (X.w q105) (X.w q162) (X.w q163) rfl md_J1_init ⟨Nat.le_of_ble_eq_true rfl, Nat.le_of_ble_eq_true rfl⟩) rfl rfl (zk_rs (Nat.le_of_ble_eq_true rfl)) dJ2_init_1 ⟨by first | exact Nat.le_of_ble_eq_true rfl | omega | (dsimp only; omega), by first | exact Nat.le_of_ble_eq_true rfl | omega | (dsimp only; omega)⟩)) (fun P1 h => ?_)
  refine zv_aload_n X 0 dJ2_init_4 rfl ?_
  refine zv_gets X (i := 2) rfl q169 rfl dJ2_init_5 ?_
  refine zv_put_r X fp_q171 (zk_tyA _) (fun z => by cases z) dJ2_init_8 h (fun P8 h => ?_)
  exact zv_vret X rfl (by first | exact Nat.le_of_ble_eq_true rfl | omega | (dsimp only; omega)) (by first | exact Nat.le_of_ble_eq_true rfl | omega | (dsimp only; omega)) dJ2_init_11 h
theorem md_J3_newLength : yJ3_newLength.cls ≠ "java/lang/invoke/MethodHandle" ∧ yJ3_newLength.cls ≠ "java/lang/invoke/VarHandle" ∧ (parseMethodDescriptor yJ3_newLength.desc).map (fun d => d.parameters.length) = some 3 := by decide +kernel
theorem wk_J3_newLength (l : Launch) {D : zk_G} {g : zk_M} {b0 : Nat} {post : Int32 → Prop} {x0 : Int32} {x1 : Int32} {x2 : Int32} {P : zk_H} (hh : wp_J3_newLength post x0 x1 x2) : Met l yJ3_newLength (ws_ yJ3_newLength cJ3_newLength 4 (some Jvm.ClassFile.FieldType.int)) ({ frames := 1, cells := 0, slots := 0, locals := 21 } : Room) (va_Pc [.int (x0), .int (x1), .int (x2)] (zk_pre D g b0 P)) (va_Qi (fun r u => post r ∧ u = P) (zk_B D b0) (zk_A b0)) 0 0 (zk_A b0) := by
  refine zk_enter "jdk/internal/util/ArraysSupport" "newLength" rfl rfl (plainFor_of_name (by decide)) [.int (x0), .int (x1), .int (x2)] (Nat.le_of_ble_eq_true rfl) ?_
  intro p e s m args below meth c X
  refine zk_at0 (L' := [(0, .int (x0)), (1, .int (x1)), (2, .int (x2))]) (rfl) ?_
  have h := hh
  unfold wp_J3_newLength at h
  refine zv_iload_n X 0 dJ3_newLength_0 rfl ?_
  refine zv_iload_n X 1 dJ3_newLength_1 rfl ?_
  refine zv_iload_n X 2 dJ3_newLength_2 rfl ?_
  refine zv_mmax X q244 ⟨by first | decide | (dsimp only; decide), by first | decide | (dsimp only; decide)⟩ (zk_rs (Nat.le_of_ble_eq_true rfl)) (by first | exact Nat.le_of_ble_eq_true rfl | dsimp only; omega) (by first | exact Nat.le_of_ble_eq_true rfl | dsimp only; omega) dJ3_newLength_3 ?_
  refine zv_iadd X dJ3_newLength_6 ?_
  refine zv_top_i h (fun v7 h => ?_)
  refine zv_istore_n X (i := 3) (L' := [(3, .int (v7)), (0, .int (x0)), (1, .int (x1)), (2, .int (x2))]) dJ3_newLength_7 rfl (by decide) rfl ?_
  refine zv_iconst X (v := 0) dJ3_newLength_8 rfl ?_
  refine zv_iload_n X 0 dJ3_newLength_9 rfl ?_
  refine zv_icmp_ge X (tgt := 21) dJ3_newLength_10 (by decide) h (fun h => ?_) (fun h => ?_)
  · refine zv_iload_n X 1 dJ3_newLength_21 rfl ?_
    refine zv_iload_n X 2 dJ3_newLength_22 rfl ?_
    exact h.elim
  · refine zv_iload_n X 0 dJ3_newLength_13 rfl ?_
    refine zv_ldc X q247 dJ3_newLength_14 ?_
    refine zv_icmp_gt X (tgt := 21) dJ3_newLength_16 (by decide) h (fun h => ?_) (fun h => ?_)
    · refine zv_iload_n X 1 dJ3_newLength_21 rfl ?_
      refine zv_iload_n X 2 dJ3_newLength_22 rfl ?_
      exact h.elim
    · refine zv_iload_n X 0 dJ3_newLength_19 rfl ?_
      exact zv_iret X rfl (by first | exact Nat.le_of_ble_eq_true rfl | omega | (dsimp only; omega)) (by first | exact Nat.le_of_ble_eq_true rfl | omega | (dsimp only; omega)) dJ3_newLength_20 ⟨h, rfl⟩
theorem md_J5_copyOf_2 : yJ5_copyOf_2.cls ≠ "java/lang/invoke/MethodHandle" ∧ yJ5_copyOf_2.cls ≠ "java/lang/invoke/VarHandle" ∧ (parseMethodDescriptor yJ5_copyOf_2.desc).map (fun d => d.parameters.length) = some 3 := by decide +kernel
theorem wk_J5_copyOf_2 (l : Launch) {D : zk_G} {g : zk_M} {b0 : Nat} {post : Option Nat → zk_H → Prop} {x0 : Option Nat} {x1 : Int32} {x2 : Option Nat} {P : zk_H} (hh : wp_J5_copyOf_2 g post x0 x1 x2 P) : Met l yJ5_copyOf_2 (ws_ yJ5_copyOf_2 cJ5_copyOf_2 4 (some (Jvm.ClassFile.FieldType.array (Jvm.ClassFile.FieldType.object "java/lang/Object")))) ({ frames := 1, cells := 1, slots := 96, locals := 40 } : Room) (va_Pc [va_rf (x0), .int (x1), va_rf (x2)] (zk_pre D g b0 P)) (va_Qq post (zk_B D b0) (zk_A b0)) 1 96 (zk_A b0) := by
  refine zk_enter "java/util/Arrays" "copyOf" rfl rfl (plainFor_of_name (by decide)) [va_rf (x0), .int (x1), va_rf (x2)] (by cases x0 <;> cases x2 <;> exact Nat.le_of_ble_eq_true rfl) ?_
  intro p e s m args below meth c X
  refine zk_at0 (L' := [(0, va_rf (x0)), (1, .int (x1)), (2, va_rf (x2))]) (by cases x0 <;> cases x2 <;> rfl) ?_
  have h := hh
  unfold wp_J5_copyOf_2 at h
  refine zv_aload_n X 2 dJ5_copyOf_2_0 rfl ?_
  refine zv_ldcM X q285 rfl dJ5_copyOf_2_1 ?_
  refine zv_acmp_ne X (tgt := 13) dJ5_copyOf_2_3 (by decide) h (fun h => ?_) (fun h => ?_)
  · refine zv_aload_n X 2 dJ5_copyOf_2_13 rfl ?_
    exact h.elim
  · refine zv_iload_n X 1 dJ5_copyOf_2_6 rfl ?_
    refine zv_newq X (C := "java/lang/Object") (by decide) (by decide) q287 (by decide) (by first | exact Nat.le_of_ble_eq_true rfl | omega | (dsimp only; omega)) (by first | exact Nat.le_of_ble_eq_true rfl | omega | (dsimp only; omega)) dJ5_copyOf_2_7 h (fun v7 P7 h => ?_)
    refine zv_goto X (tgt := 24) dJ5_copyOf_2_10 (by decide) ?_
    refine zv_astore_n X (i := 3) (L' := [(3, va_rf (some v7)), (0, va_rf (x0)), (1, .int (x1)), (2, va_rf (x2))]) dJ5_copyOf_2_24 rfl (by decide) (by simp [zk_s1, zk_s2, zk_rc, zk_ic, zk_jc]) ?_
    refine zv_aload_n X 1 dJ5_copyOf_2_25 rfl ?_
    refine zv_iconst X (v := 0) dJ5_copyOf_2_26 rfl ?_
    refine zv_aload_n X 0 dJ5_copyOf_2_27 rfl ?_
    refine zv_iconst X (v := 0) dJ5_copyOf_2_28 rfl ?_
    refine zv_aload_n X 1 dJ5_copyOf_2_29 rfl ?_
    refine zv_alen X dJ5_copyOf_2_30 h (fun v30 h => ?_)
    refine zv_iload_n X 2 dJ5_copyOf_2_31 rfl ?_
    refine zv_mmin X q288 ⟨by first | decide | (dsimp only; decide), by first | decide | (dsimp only; decide)⟩ (zk_rs (Nat.le_of_ble_eq_true rfl)) (by first | exact Nat.le_of_ble_eq_true rfl | dsimp only; omega) (by first | exact Nat.le_of_ble_eq_true rfl | dsimp only; omega) dJ5_copyOf_2_32 ?_
    refine zv_copyQ X zk_mayok q291 ⟨by first | decide | (dsimp only; decide), by first | decide | (dsimp only; decide)⟩ (zk_rs (Nat.le_of_ble_eq_true rfl)) dJ5_copyOf_2_35 h (fun P35 h => ?_)
    refine zv_aload_n X 0 dJ5_copyOf_2_38 rfl ?_
    exact zv_aret X rfl (Or.inr ⟨_, rfl⟩) (by first | exact Nat.le_of_ble_eq_true rfl | omega | (dsimp only; omega)) (by first | exact Nat.le_of_ble_eq_true rfl | omega | (dsimp only; omega)) dJ5_copyOf_2_39 h
theorem md_J5_copyOf : yJ5_copyOf.cls ≠ "java/lang/invoke/MethodHandle" ∧ yJ5_copyOf.cls ≠ "java/lang/invoke/VarHandle" ∧ (parseMethodDescriptor yJ5_copyOf.desc).map (fun d => d.parameters.length) = some 2 := by decide +kernel
theorem wk_J5_copyOf (l : Launch) {D : zk_G} {g : zk_M} {b0 : Nat} {post : Option Nat → zk_H → Prop} {x0 : Option Nat} {x1 : Int32} {P : zk_H} (hh : wp_J5_copyOf g post x0 x1 P) : Met l yJ5_copyOf (ws_ yJ5_copyOf cJ5_copyOf 2 (some (Jvm.ClassFile.FieldType.array (Jvm.ClassFile.FieldType.object "java/lang/Object")))) ({ frames := 2, cells := 1, slots := 96, locals := 63 } : Room) (va_Pc [va_rf (x0), .int (x1)] (zk_pre D g b0 P)) (va_Qq post (zk_B D b0) (zk_A b0)) 1 96 (zk_A b0) := by
  refine zk_enter "java/util/Arrays" "copyOf" rfl rfl (plainFor_of_name (by decide)) [va_rf (x0), .int (x1)] (by cases x0 <;> exact Nat.le_of_ble_eq_true rfl) ?_
  intro p e s m args below meth c X
  refine zk_at0 (L' := [(0, va_rf (x0)), (1, .int (x1))]) (by cases x0 <;> rfl) ?_
  have h := hh
  unfold wp_J5_copyOf at h
  refine zv_aload_n X 0 dJ5_copyOf_0 rfl ?_
  refine zv_iload_n X 1 dJ5_copyOf_1 rfl ?_
  refine zv_aload_n X 0 dJ5_copyOf_2 rfl ?_
  refine zv_getC X q254 ⟨by first | decide | (dsimp only; decide), by first | decide | (dsimp only; decide)⟩ (zk_rs (Nat.le_of_ble_eq_true rfl)) dJ5_copyOf_3 h (fun h => ?_)
  refine zv_cq ((zr_S X (As := [va_rf (x0), .int (x1), va_rf (some (g 25))]) (rest := []) (wk_J5_copyOf_2 l h) (va_cwS 3 X.hts (lw_S q282 q283 q109 q284) rfl rfl rfl md_J5_copyOf_2 ⟨Nat.le_of_ble_eq_true rfl, Nat.le_of_ble_eq_true rfl⟩) rfl rfl (zk_rs (Nat.le_of_ble_eq_true rfl)) dJ5_copyOf_6 ⟨by first | exact Nat.le_of_ble_eq_true rfl | omega | (dsimp only; omega), by first | exact Nat.le_of_ble_eq_true rfl | omega | (dsimp only; omega)⟩)) (fun v6 P6 h => ?_)
  exact zv_aret X rfl (Or.inr ⟨_, rfl⟩) (by first | exact Nat.le_of_ble_eq_true rfl | omega | (dsimp only; omega)) (by first | exact Nat.le_of_ble_eq_true rfl | omega | (dsimp only; omega)) dJ5_copyOf_9 h
theorem kj_J2_grow_2_20 {p : Program} {l : Launch} {e : Env} {s : State} {m : MethodId} {args : Array Value} {below : List Frame} {meth : Method} {c : Code} {D : zk_G} {g : zk_M} {b0 : Nat} (X : zk_X p s m args meth c D g b0 cJ2_grow_2 4 "java/util/ArrayList" "grow" (some (Jvm.ClassFile.FieldType.array (Jvm.ClassFile.FieldType.object "java/lang/Object")))) {post : Option Nat → zk_H → Prop}  {a0 : Option Nat} {a1 : Int32} {a2 : Int32} {P : zk_H}    (hh : wj_J2_grow_2_20 g post a0 a1 a2 P) : zV p l e ({ frames := 3, cells := 1, slots := 96, locals := 84 } : Room) s m args below meth c D b0 4 (0) (0) (MQ below (va_Qq post (zk_B D b0) (zk_A b0)) args s 1 96 (zk_A b0)) P 20 [(0, va_rf (a0)), (1, .int (a1)), (2, .int (a2))] [] := by
  have h := hh
  unfold wj_J2_grow_2_20 at h
  refine zv_iload_n X 2 dJ2_grow_2_20 rfl ?_
  refine zv_iload_n X 1 dJ2_grow_2_21 rfl ?_
  refine zv_iload_n X 2 dJ2_grow_2_22 rfl ?_
  refine zv_isub X dJ2_grow_2_23 ?_
  refine zv_iload_n X 2 dJ2_grow_2_24 rfl ?_
  refine zv_iconst X (v := 1) dJ2_grow_2_25 rfl ?_
  refine zv_ishr X dJ2_grow_2_26 ?_
  refine zv_ciR ((zr_S X (As := [.int (a2), .int (a1 - a2), .int (a2 >>> (1 &&& 31))]) (rest := []) (wk_J3_newLength l h) (va_cwS 3 X.hts (lw_S q241 q242 q107 q243) rfl rfl rfl md_J3_newLength ⟨Nat.le_of_ble_eq_true rfl, Nat.le_of_ble_eq_true rfl⟩) rfl rfl (zk_rs (Nat.le_of_ble_eq_true rfl)) dJ2_grow_2_27 ⟨by first | exact Nat.le_of_ble_eq_true rfl | omega | (dsimp only; omega), by first | exact Nat.le_of_ble_eq_true rfl | omega | (dsimp only; omega)⟩)) (fun v27 h => ?_)
  refine zv_istore_n X (i := 3) (L' := [(3, .int (v27)), (0, va_rf (a0)), (1, .int (a1)), (2, .int (a2))]) dJ2_grow_2_30 rfl (by decide) rfl ?_
  refine zv_aload_n X 1 dJ2_grow_2_31 rfl ?_
  refine zv_aload_n X 1 dJ2_grow_2_32 rfl ?_
  refine zv_getf_r X fo_q171 dJ2_grow_2_33 h (fun v33 h => ?_)
  refine zv_iload_n X 0 dJ2_grow_2_36 rfl ?_
  refine zv_cq ((zr_S X (As := [va_rf (v33), .int (v27)]) (rest := [va_rf (a0)]) (wk_J5_copyOf l h) (va_cwS 2 X.hts (lw_S q251 q252 q109 q253) rfl rfl rfl md_J5_copyOf ⟨Nat.le_of_ble_eq_true rfl, Nat.le_of_ble_eq_true rfl⟩) rfl rfl (zk_rs (Nat.le_of_ble_eq_true rfl)) dJ2_grow_2_37 ⟨by first | exact Nat.le_of_ble_eq_true rfl | omega | (dsimp only; omega), by first | exact Nat.le_of_ble_eq_true rfl | omega | (dsimp only; omega)⟩)) (fun v37 P37 h => ?_)
  refine zv_dup_x1 X dJ2_grow_2_40 (zk_rc _) (zk_rc _) ?_
  refine zv_put_r X fp_q171 (zk_tyA _) (fun z => by cases z) dJ2_grow_2_41 h (fun P41 h => ?_)
  exact zv_aret X rfl (Or.inr ⟨_, rfl⟩) (by first | exact Nat.le_of_ble_eq_true rfl | omega | (dsimp only; omega)) (by first | exact Nat.le_of_ble_eq_true rfl | omega | (dsimp only; omega)) dJ2_grow_2_44 h
theorem md_J2_grow_2 : yJ2_grow_2.cls ≠ "java/lang/invoke/MethodHandle" ∧ yJ2_grow_2.cls ≠ "java/lang/invoke/VarHandle" ∧ (parseMethodDescriptor yJ2_grow_2.desc).map (fun d => d.parameters.length) = some 1 := by decide +kernel
theorem wk_J2_grow_2 (l : Launch) {D : zk_G} {g : zk_M} {b0 : Nat} {post : Option Nat → zk_H → Prop} {this : Nat} {x1 : Int32} {P : zk_H} (hh : wp_J2_grow_2 g post this x1 P) : Met l yJ2_grow_2 (ws_ yJ2_grow_2 cJ2_grow_2 4 (some (Jvm.ClassFile.FieldType.array (Jvm.ClassFile.FieldType.object "java/lang/Object")))) ({ frames := 3, cells := 1, slots := 96, locals := 84 } : Room) (va_Pc [.ref this, .int (x1)] (zk_pre D g b0 P)) (va_Qq post (zk_B D b0) (zk_A b0)) 1 96 (zk_A b0) := by
  refine zk_enter "java/util/ArrayList" "grow" rfl rfl (plainFor_of_name (by decide)) [.ref this, .int (x1)] (Nat.le_of_ble_eq_true rfl) ?_
  intro p e s m args below meth c X
  refine zk_at0 (L' := [(0, va_rf (some this)), (1, .int (x1))]) (rfl) ?_
  have h := hh
  unfold wp_J2_grow_2 at h
  refine zv_aload_n X 0 dJ2_grow_2_0 rfl ?_
  refine zv_getf_r X fo_q171 dJ2_grow_2_1 h (fun v1 h => ?_)
  refine zv_alen X dJ2_grow_2_4 h (fun v4 h => ?_)
  refine zv_istore_n X (i := 2) (L' := [(2, .int (v4)), (0, va_rf (some this)), (1, .int (x1))]) dJ2_grow_2_5 rfl (by decide) rfl ?_
  refine zv_iload_n X 0 dJ2_grow_2_6 rfl ?_
  refine zv_if_gt X (tgt := 20) dJ2_grow_2_7 (by decide) h (fun h => ?_) (fun h => ?_)
  · refine zv_sub (L' := [(0, va_rf (some this)), (1, .int (x1)), (2, .int (v4))]) [1, 2, 0] rfl ?_
    refine zv_widen (c2 := 0) (s2 := 0) (by first | exact Nat.le_of_ble_eq_true rfl | omega | (dsimp only; omega)) (by first | exact Nat.le_of_ble_eq_true rfl | omega | (dsimp only; omega)) ?_
    exact kj_J2_grow_2_20 X  h
  · refine zv_aload_n X 1 dJ2_grow_2_10 rfl ?_
    refine zv_getf_r X fo_q171 dJ2_grow_2_11 h (fun v11 h => ?_)
    refine zv_gets X (i := 2) rfl q169 rfl dJ2_grow_2_14 ?_
    refine zv_acmp_eq X (tgt := 45) dJ2_grow_2_17 (by decide) h (fun h => ?_) (fun h => ?_)
    · refine zv_aload_n X 1 dJ2_grow_2_45 rfl ?_
      refine zv_bipush X (v := 10) dJ2_grow_2_46 rfl ?_
      refine zv_iload_n X 2 dJ2_grow_2_48 rfl ?_
      refine zv_mmax X q294 ⟨by first | decide | (dsimp only; decide), by first | decide | (dsimp only; decide)⟩ (zk_rs (Nat.le_of_ble_eq_true rfl)) (by first | exact Nat.le_of_ble_eq_true rfl | dsimp only; omega) (by first | exact Nat.le_of_ble_eq_true rfl | dsimp only; omega) dJ2_grow_2_49 ?_
      refine zv_newq X (C := "java/lang/Object") (by decide) (by decide) q295 (by decide) (by first | exact Nat.le_of_ble_eq_true rfl | omega | (dsimp only; omega)) (by first | exact Nat.le_of_ble_eq_true rfl | omega | (dsimp only; omega)) dJ2_grow_2_52 h (fun v52 P52 h => ?_)
      refine zv_dup_x1 X dJ2_grow_2_55 (zk_rc _) (zk_rc _) ?_
      refine zv_put_r X fp_q171 (zk_tyA _) (fun z => by cases z) dJ2_grow_2_56 h (fun P56 h => ?_)
      exact zv_aret X rfl (Or.inr ⟨_, rfl⟩) (by first | exact Nat.le_of_ble_eq_true rfl | omega | (dsimp only; omega)) (by first | exact Nat.le_of_ble_eq_true rfl | omega | (dsimp only; omega)) dJ2_grow_2_59 h
    · refine zv_sub (L' := [(0, va_rf (some this)), (1, .int (x1)), (2, .int (v4))]) [1, 2, 0] rfl ?_
      refine zv_widen (c2 := 0) (s2 := 0) (by first | exact Nat.le_of_ble_eq_true rfl | omega | (dsimp only; omega)) (by first | exact Nat.le_of_ble_eq_true rfl | omega | (dsimp only; omega)) ?_
      exact kj_J2_grow_2_20 X  h
theorem md_J2_grow : yJ2_grow.cls ≠ "java/lang/invoke/MethodHandle" ∧ yJ2_grow.cls ≠ "java/lang/invoke/VarHandle" ∧ (parseMethodDescriptor yJ2_grow.desc).map (fun d => d.parameters.length) = some 0 := by decide +kernel
theorem wk_J2_grow (l : Launch) {D : zk_G} {g : zk_M} {b0 : Nat} {post : Option Nat → zk_H → Prop} {this : Nat} {P : zk_H} (hh : wp_J2_grow g post this P) : Met l yJ2_grow (ws_ yJ2_grow cJ2_grow 1 (some (Jvm.ClassFile.FieldType.array (Jvm.ClassFile.FieldType.object "java/lang/Object")))) ({ frames := 4, cells := 1, slots := 96, locals := 107 } : Room) (va_Pc [.ref this] (zk_pre D g b0 P)) (va_Qq post (zk_B D b0) (zk_A b0)) 1 96 (zk_A b0) := by
  refine zk_enter "java/util/ArrayList" "grow" rfl rfl (plainFor_of_name (by decide)) [.ref this] (Nat.le_of_ble_eq_true rfl) ?_
  intro p e s m args below meth c X
  refine zk_at0 (L' := [(0, va_rf (some this))]) (rfl) ?_
  have h := hh
  unfold wp_J2_grow at h
  refine zv_aload_n X 0 dJ2_grow_0 rfl ?_
  refine zv_aload_n X 0 dJ2_grow_1 rfl ?_
  refine zv_getf_i X fo_q172 dJ2_grow_2 h (fun v2 h => ?_)
  refine zv_iconst X (v := 1) dJ2_grow_5 rfl ?_
  refine zv_iadd X dJ2_grow_6 ?_
  refine zv_cq ((zr_Vl X (As := [.int (v2 + 1)]) (rest := []) h (fun a h => wk_J2_grow_2 l h) (zk_l1 ⟨_, rfl, cwV 1 X.hts (lw_V q237 q239 qs2 q106 q240) rfl rfl rfl ⟨rfl, md_J2_grow_2⟩ ⟨Nat.le_of_ble_eq_true rfl, Nat.le_of_ble_eq_true rfl⟩⟩) rfl rfl (zk_rs (Nat.le_of_ble_eq_true rfl)) dJ2_grow_7 ⟨by first | exact Nat.le_of_ble_eq_true rfl | omega | (dsimp only; omega), by first | exact Nat.le_of_ble_eq_true rfl | omega | (dsimp only; omega)⟩)) (fun v7 P7 h => ?_)
  exact zv_aret X rfl (Or.inr ⟨_, rfl⟩) (by first | exact Nat.le_of_ble_eq_true rfl | omega | (dsimp only; omega)) (by first | exact Nat.le_of_ble_eq_true rfl | omega | (dsimp only; omega)) dJ2_grow_10 h
theorem kj_J2_add_2_11 {p : Program} {l : Launch} {e : Env} {s : State} {m : MethodId} {args : Array Value} {below : List Frame} {meth : Method} {c : Code} {D : zk_G} {g : zk_M} {b0 : Nat} (X : zk_X p s m args meth c D g b0 cJ2_add_2 4 "java/util/ArrayList" "add" none) {post : zk_H → Prop}  {a0 : Option Nat} {a1 : Option Nat} {a2 : Option Nat} {a3 : Int32} {P : zk_H}    (hh : wj_J2_add_2_11 g post a0 a1 a2 a3 P) : zV p l e ({ frames := 5, cells := 1, slots := 96, locals := 127 } : Room) s m args below meth c D b0 4 (1) (96) (MQ below (va_Qv post (zk_B D b0) (zk_A b0)) args s 1 96 (zk_A b0)) P 11 [(0, va_rf (a0)), (1, va_rf (a1)), (2, va_rf (a2)), (3, .int (a3))] [] := by
  have h := hh
  unfold wj_J2_add_2_11 at h
  refine zv_aload_n X 2 dJ2_add_2_11 rfl ?_
  refine zv_iload_n X 3 dJ2_add_2_12 rfl ?_
  refine zv_aload_n X 1 dJ2_add_2_13 rfl ?_
  refine zv_aast X zk_mayok dJ2_add_2_14 h (fun P14 h => ?_)
  refine zv_aload_n X 0 dJ2_add_2_15 rfl ?_
  refine zv_iload_n X 3 dJ2_add_2_16 rfl ?_
  refine zv_iconst X (v := 1) dJ2_add_2_17 rfl ?_
  refine zv_iadd X dJ2_add_2_18 ?_
  refine zv_put_i X fp_q172 (fun z => by cases z) dJ2_add_2_19 h (fun P19 h => ?_)
  exact zv_vret X rfl (by first | exact Nat.le_of_ble_eq_true rfl | omega | (dsimp only; omega)) (by first | exact Nat.le_of_ble_eq_true rfl | omega | (dsimp only; omega)) dJ2_add_2_22 h
theorem md_J2_add_2 : yJ2_add_2.cls ≠ "java/lang/invoke/MethodHandle" ∧ yJ2_add_2.cls ≠ "java/lang/invoke/VarHandle" ∧ (parseMethodDescriptor yJ2_add_2.desc).map (fun d => d.parameters.length) = some 3 := by decide +kernel
theorem wk_J2_add_2 (l : Launch) {D : zk_G} {g : zk_M} {b0 : Nat} {post : zk_H → Prop} {this : Nat} {x1 : Option Nat} {x2 : Option Nat} {x3 : Int32} {P : zk_H} (hh : wp_J2_add_2 g post this x1 x2 x3 P) : Met l yJ2_add_2 (ws_ yJ2_add_2 cJ2_add_2 4 none) ({ frames := 5, cells := 1, slots := 96, locals := 127 } : Room) (va_Pc [.ref this, va_rf (x1), va_rf (x2), .int (x3)] (zk_pre D g b0 P)) (va_Qv post (zk_B D b0) (zk_A b0)) 1 96 (zk_A b0) := by
  refine zk_enter "java/util/ArrayList" "add" rfl rfl (plainFor_of_name (by decide)) [.ref this, va_rf (x1), va_rf (x2), .int (x3)] (by cases x1 <;> cases x2 <;> exact Nat.le_of_ble_eq_true rfl) ?_
  intro p e s m args below meth c X
  refine zk_at0 (L' := [(0, va_rf (some this)), (1, va_rf (x1)), (2, va_rf (x2)), (3, .int (x3))]) (by cases x1 <;> cases x2 <;> rfl) ?_
  have h := hh
  unfold wp_J2_add_2 at h
  refine zv_iload_n X 3 dJ2_add_2_0 rfl ?_
  refine zv_aload_n X 2 dJ2_add_2_1 rfl ?_
  refine zv_alen X dJ2_add_2_2 h (fun v2 h => ?_)
  refine zv_icmp_ne X (tgt := 11) dJ2_add_2_3 (by decide) h (fun h => ?_) (fun h => ?_)
  · refine zv_widen (c2 := 1) (s2 := 96) (by first | exact Nat.le_of_ble_eq_true rfl | omega | (dsimp only; omega)) (by first | exact Nat.le_of_ble_eq_true rfl | omega | (dsimp only; omega)) ?_
    exact kj_J2_add_2_11 X  h
  · refine zv_aload_n X 0 dJ2_add_2_6 rfl ?_
    refine zv_cq ((zr_Vl X (As := []) (rest := []) h (fun a h => wk_J2_grow l h) (zk_l1 ⟨_, rfl, cwV 0 X.hts (lw_V q233 q235 qs1 q106 q236) rfl rfl rfl ⟨rfl, md_J2_grow⟩ ⟨Nat.le_of_ble_eq_true rfl, Nat.le_of_ble_eq_true rfl⟩⟩) rfl rfl (zk_rs (Nat.le_of_ble_eq_true rfl)) dJ2_add_2_7 ⟨by first | exact Nat.le_of_ble_eq_true rfl | omega | (dsimp only; omega), by first | exact Nat.le_of_ble_eq_true rfl | omega | (dsimp only; omega)⟩)) (fun v7 P7 h => ?_)
    refine zv_astore_n X (i := 2) (L' := [(2, va_rf (v7)), (0, va_rf (some this)), (1, va_rf (x1)), (3, .int (x3))]) dJ2_add_2_10 rfl (by decide) (by simp [zk_s1, zk_s2, zk_rc, zk_ic, zk_jc]) ?_
    refine zv_sub (L' := [(0, va_rf (some this)), (1, va_rf (x1)), (2, va_rf (v7)), (3, .int (x3))]) [1, 2, 0, 3] rfl ?_
    refine zv_widen (c2 := 1) (s2 := 96) (by first | exact Nat.le_of_ble_eq_true rfl | omega | (dsimp only; omega)) (by first | exact Nat.le_of_ble_eq_true rfl | omega | (dsimp only; omega)) ?_
    exact kj_J2_add_2_11 X  h
theorem md_J2_add : yJ2_add.cls ≠ "java/lang/invoke/MethodHandle" ∧ yJ2_add.cls ≠ "java/lang/invoke/VarHandle" ∧ (parseMethodDescriptor yJ2_add.desc).map (fun d => d.parameters.length) = some 1 := by decide +kernel
theorem wk_J2_add (l : Launch) {D : zk_G} {g : zk_M} {b0 : Nat} {post : Int32 → zk_H → Prop} {this : Nat} {x1 : Option Nat} {P : zk_H} (hh : wp_J2_add g post this x1 P) : Met l yJ2_add (ws_ yJ2_add cJ2_add 2 (some Jvm.ClassFile.FieldType.boolean)) ({ frames := 6, cells := 1, slots := 96, locals := 150 } : Room) (va_Pc [.ref this, va_rf (x1)] (zk_pre D g b0 P)) (va_Qi post (zk_B D b0) (zk_A b0)) 1 96 (zk_A b0) := by
  refine zk_enter "java/util/ArrayList" "add" rfl rfl (plainFor_of_name (by decide)) [.ref this, va_rf (x1)] (by cases x1 <;> exact Nat.le_of_ble_eq_true rfl) ?_
  intro p e s m args below meth c X
  refine zk_at0 (L' := [(0, va_rf (some this)), (1, va_rf (x1))]) (by cases x1 <;> rfl) ?_
  have h := hh
  unfold wp_J2_add at h
  refine zv_aload_n X 0 dJ2_add_0 rfl ?_
  refine zv_dup X dJ2_add_1 (zk_rc _) ?_
  refine zv_getf_i X fo_q174 dJ2_add_2 h (fun v2 h => ?_)
  refine zv_iconst X (v := 1) dJ2_add_5 rfl ?_
  refine zv_iadd X dJ2_add_6 ?_
  refine zv_put_i X fp_q174 (fun z => by cases z) dJ2_add_7 h (fun P7 h => ?_)
  refine zv_aload_n X 0 dJ2_add_10 rfl ?_
  refine zv_aload_n X 1 dJ2_add_11 rfl ?_
  refine zv_aload_n X 0 dJ2_add_12 rfl ?_
  refine zv_getf_r X fo_q171 dJ2_add_13 h (fun v13 h => ?_)
  refine zv_aload_n X 0 dJ2_add_16 rfl ?_
  refine zv_getf_i X fo_q172 dJ2_add_17 h (fun v17 h => ?_)
  refine zv_cv ((zr_Vl X (As := [va_rf (x1), va_rf (v13), .int (v17)]) (rest := []) h (fun a h => wk_J2_add_2 l h) (zk_l1 ⟨_, rfl, cwV 3 X.hts (lw_V q229 q231 qs0 q106 q232) rfl rfl rfl ⟨rfl, md_J2_add_2⟩ ⟨Nat.le_of_ble_eq_true rfl, Nat.le_of_ble_eq_true rfl⟩⟩) rfl rfl (zk_rs (Nat.le_of_ble_eq_true rfl)) dJ2_add_20 ⟨by first | exact Nat.le_of_ble_eq_true rfl | omega | (dsimp only; omega), by first | exact Nat.le_of_ble_eq_true rfl | omega | (dsimp only; omega)⟩)) (fun P20 h => ?_)
  refine zv_iconst X (v := 1) dJ2_add_23 rfl ?_
  exact zv_zret X (ty := .boolean) rfl (by first | exact Nat.le_of_ble_eq_true rfl | omega | (dsimp only; omega)) (by first | exact Nat.le_of_ble_eq_true rfl | omega | (dsimp only; omega)) dJ2_add_24 ⟨rfl, h⟩
theorem md_J2_size : yJ2_size.cls ≠ "java/lang/invoke/MethodHandle" ∧ yJ2_size.cls ≠ "java/lang/invoke/VarHandle" ∧ (parseMethodDescriptor yJ2_size.desc).map (fun d => d.parameters.length) = some 0 := by decide +kernel
theorem wk_J2_size (l : Launch) {D : zk_G} {g : zk_M} {b0 : Nat} {post : Int32 → Prop} {this : Nat} {P : zk_H} (hh : wp_J2_size post this P) : Met l yJ2_size (ws_ yJ2_size cJ2_size 1 (some Jvm.ClassFile.FieldType.int)) ({ frames := 0, cells := 0, slots := 0, locals := 0 } : Room) (va_Pc [.ref this] (zk_pre D g b0 P)) (va_Qi (fun r u => post r ∧ u = P) (zk_B D b0) (zk_A b0)) 0 0 (zk_A b0) := by
  refine zk_enter "java/util/ArrayList" "size" rfl rfl (plainFor_of_name (by decide)) [.ref this] (Nat.le_of_ble_eq_true rfl) ?_
  intro p e s m args below meth c X
  refine zk_at0 (L' := [(0, va_rf (some this))]) (rfl) ?_
  have h := hh
  unfold wp_J2_size at h
  refine zv_aload_n X 0 dJ2_size_0 rfl ?_
  refine zv_getf_i X fo_q172 dJ2_size_1 h (fun v1 h => ?_)
  exact zv_iret X rfl (by first | exact Nat.le_of_ble_eq_true rfl | omega | (dsimp only; omega)) (by first | exact Nat.le_of_ble_eq_true rfl | omega | (dsimp only; omega)) dJ2_size_4 ⟨h, rfl⟩
theorem md_J6_init : yJ6_init.cls ≠ "java/lang/invoke/MethodHandle" ∧ yJ6_init.cls ≠ "java/lang/invoke/VarHandle" ∧ (parseMethodDescriptor yJ6_init.desc).map (fun d => d.parameters.length) = some 0 := by decide +kernel
theorem wk_J6_init (l : Launch) {D : zk_G} {g : zk_M} {b0 : Nat} {post : zk_H → Prop} {this : Nat} {P : zk_H} (hh : wp_J6_init post this P) : Met l yJ6_init (ws_ yJ6_init cJ6_init 1 none) ({ frames := 2, cells := 1, slots := 17, locals := 40 } : Room) (va_Pc [.ref this] (zk_pre D g b0 P)) (va_Qv post (zk_B D b0) (zk_A b0)) 1 17 (zk_A b0) := by
  refine zk_enter "java/util/ArrayDeque" "<init>" rfl rfl (plainFor_of_name (by decide)) [.ref this] (Nat.le_of_ble_eq_true rfl) ?_
  intro p e s m args below meth c X
  refine zk_at0 (L' := [(0, va_rf (some this))]) (rfl) ?_
  have h := hh
  unfold wp_J6_init at h
  refine zv_aload_n X 0 dJ6_init_0 rfl ?_
  refine zv_cvR ((zr_I X (As := []) (rest := []) (wk_J0_init l h) (cwI 0 X.hts (lw_meth q167) rfl rfl rfl (X.w q104) (X.w q389) (X.w q166) rfl md_J0_init ⟨Nat.le_of_ble_eq_true rfl, Nat.le_of_ble_eq_true rfl⟩) rfl rfl (zk_rs (Nat.le_of_ble_eq_true rfl)) dJ6_init_1 ⟨by first | exact Nat.le_of_ble_eq_true rfl | omega | (dsimp only; omega), by first | exact Nat.le_of_ble_eq_true rfl | omega | (dsimp only; omega)⟩)) (fun h => ?_)
  refine zv_aload_n X 0 dJ6_init_4 rfl ?_
  refine zv_bipush X (v := 17) dJ6_init_5 rfl ?_
  refine zv_newq X (C := "java/lang/Object") (by decide) (by decide) q390 (by decide) (by first | exact Nat.le_of_ble_eq_true rfl | omega | (dsimp only; omega)) (by first | exact Nat.le_of_ble_eq_true rfl | omega | (dsimp only; omega)) dJ6_init_7 h (fun v7 P7 h => ?_)
  refine zv_put_r X fp_q391 (zk_tyA _) (fun z => by cases z) dJ6_init_10 h (fun P10 h => ?_)
  exact zv_vret X rfl (by first | exact Nat.le_of_ble_eq_true rfl | omega | (dsimp only; omega)) (by first | exact Nat.le_of_ble_eq_true rfl | omega | (dsimp only; omega)) dJ6_init_13 h
theorem md_J6_isEmpty : yJ6_isEmpty.cls ≠ "java/lang/invoke/MethodHandle" ∧ yJ6_isEmpty.cls ≠ "java/lang/invoke/VarHandle" ∧ (parseMethodDescriptor yJ6_isEmpty.desc).map (fun d => d.parameters.length) = some 0 := by decide +kernel
theorem wk_J6_isEmpty (l : Launch) {D : zk_G} {g : zk_M} {b0 : Nat} {post : Int32 → Prop} {this : Nat} {P : zk_H} (hh : wp_J6_isEmpty post this P) : Met l yJ6_isEmpty (ws_ yJ6_isEmpty cJ6_isEmpty 1 (some Jvm.ClassFile.FieldType.boolean)) ({ frames := 0, cells := 0, slots := 0, locals := 0 } : Room) (va_Pc [.ref this] (zk_pre D g b0 P)) (va_Qi (fun r u => post r ∧ u = P) (zk_B D b0) (zk_A b0)) 0 0 (zk_A b0) := by
  refine zk_enter "java/util/ArrayDeque" "isEmpty" rfl rfl (plainFor_of_name (by decide)) [.ref this] (Nat.le_of_ble_eq_true rfl) ?_
  intro p e s m args below meth c X
  refine zk_at0 (L' := [(0, va_rf (some this))]) (rfl) ?_
  have h := hh
  unfold wp_J6_isEmpty at h
  refine zv_aload_n X 0 dJ6_isEmpty_0 rfl ?_
  refine zv_getf_i X fo_q392 dJ6_isEmpty_1 h (fun v1 h => ?_)
  refine zv_aload_n X 0 dJ6_isEmpty_4 rfl ?_
  refine zv_getf_i X fo_q393 dJ6_isEmpty_5 h (fun v5 h => ?_)
  refine zv_icmp_ne X (tgt := 15) dJ6_isEmpty_8 (by decide) h (fun h => ?_) (fun h => ?_)
  · refine zv_iconst X (v := 0) dJ6_isEmpty_15 rfl ?_
    exact zv_zret X (ty := .boolean) rfl (by first | exact Nat.le_of_ble_eq_true rfl | omega | (dsimp only; omega)) (by first | exact Nat.le_of_ble_eq_true rfl | omega | (dsimp only; omega)) dJ6_isEmpty_16 ⟨rfl, ⟨h, rfl⟩⟩
  · refine zv_iconst X (v := 1) dJ6_isEmpty_11 rfl ?_
    refine zv_goto X (tgt := 16) dJ6_isEmpty_12 (by decide) ?_
    exact zv_zret X (ty := .boolean) rfl (by first | exact Nat.le_of_ble_eq_true rfl | omega | (dsimp only; omega)) (by first | exact Nat.le_of_ble_eq_true rfl | omega | (dsimp only; omega)) dJ6_isEmpty_16 ⟨rfl, ⟨h, rfl⟩⟩
theorem md_J6_dec : yJ6_dec.cls ≠ "java/lang/invoke/MethodHandle" ∧ yJ6_dec.cls ≠ "java/lang/invoke/VarHandle" ∧ (parseMethodDescriptor yJ6_dec.desc).map (fun d => d.parameters.length) = some 2 := by decide +kernel
theorem wk_J6_dec (l : Launch) {D : zk_G} {g : zk_M} {b0 : Nat} {post : Int32 → Prop} {x0 : Int32} {x1 : Int32} {P : zk_H} (hh : wp_J6_dec post x0 x1) : Met l yJ6_dec (ws_ yJ6_dec cJ6_dec 2 (some Jvm.ClassFile.FieldType.int)) ({ frames := 0, cells := 0, slots := 0, locals := 0 } : Room) (va_Pc [.int (x0), .int (x1)] (zk_pre D g b0 P)) (va_Qi (fun r u => post r ∧ u = P) (zk_B D b0) (zk_A b0)) 0 0 (zk_A b0) := by
  refine zk_enter "java/util/ArrayDeque" "dec" rfl rfl (plainFor_of_name (by decide)) [.int (x0), .int (x1)] (Nat.le_of_ble_eq_true rfl) ?_
  intro p e s m args below meth c X
  refine zk_at0 (L' := [(0, .int (x0)), (1, .int (x1))]) (rfl) ?_
  have h := hh
  unfold wp_J6_dec at h
  obtain ⟨v0, e0, h⟩ := zt_e h
  refine zv_iinc X (v := v0) (L' := [(0, .int (v0)), (1, .int (x1))]) 0 dJ6_dec_0 rfl e0 (by decide) rfl ?_
  refine zv_iload_n X 0 dJ6_dec_3 rfl ?_
  refine zv_if_ge X (tgt := 11) dJ6_dec_4 (by decide) h (fun h => ?_) (fun h => ?_)
  · refine zv_iload_n X 0 dJ6_dec_11 rfl ?_
    exact zv_iret X rfl (by first | exact Nat.le_of_ble_eq_true rfl | omega | (dsimp only; omega)) (by first | exact Nat.le_of_ble_eq_true rfl | omega | (dsimp only; omega)) dJ6_dec_12 ⟨h, rfl⟩
  · refine zv_iload_n X 1 dJ6_dec_7 rfl ?_
    refine zv_iconst X (v := 1) dJ6_dec_8 rfl ?_
    refine zv_isub X dJ6_dec_9 ?_
    refine zv_top_i h (fun v10 h => ?_)
    refine zv_istore_n X (i := 0) (L' := [(0, .int (v10)), (1, .int (x1))]) dJ6_dec_10 rfl (by decide) rfl ?_
    refine zv_iload_n X 0 dJ6_dec_11 rfl ?_
    exact zv_iret X rfl (by first | exact Nat.le_of_ble_eq_true rfl | omega | (dsimp only; omega)) (by first | exact Nat.le_of_ble_eq_true rfl | omega | (dsimp only; omega)) dJ6_dec_12 ⟨h, rfl⟩
theorem md_J6_elementAt : yJ6_elementAt.cls ≠ "java/lang/invoke/MethodHandle" ∧ yJ6_elementAt.cls ≠ "java/lang/invoke/VarHandle" ∧ (parseMethodDescriptor yJ6_elementAt.desc).map (fun d => d.parameters.length) = some 2 := by decide +kernel
theorem wk_J6_elementAt (l : Launch) {D : zk_G} {g : zk_M} {b0 : Nat} {post : Option Nat → Prop} {x0 : Option Nat} {x1 : Int32} {P : zk_H} (hh : wp_J6_elementAt post x0 x1 P) : Met l yJ6_elementAt (ws_ yJ6_elementAt cJ6_elementAt 2 (some (Jvm.ClassFile.FieldType.object "java/lang/Object"))) ({ frames := 0, cells := 0, slots := 0, locals := 0 } : Room) (va_Pc [va_rf (x0), .int (x1)] (zk_pre D g b0 P)) (va_Qq (fun r u => post r ∧ u = P) (zk_B D b0) (zk_A b0)) 0 0 (zk_A b0) := by
  refine zk_enter "java/util/ArrayDeque" "elementAt" rfl rfl (plainFor_of_name (by decide)) [va_rf (x0), .int (x1)] (by cases x0 <;> exact Nat.le_of_ble_eq_true rfl) ?_
  intro p e s m args below meth c X
  refine zk_at0 (L' := [(0, va_rf (x0)), (1, .int (x1))]) (by cases x0 <;> rfl) ?_
  have h := hh
  unfold wp_J6_elementAt at h
  refine zv_aload_n X 0 dJ6_elementAt_0 rfl ?_
  refine zv_iload_n X 1 dJ6_elementAt_1 rfl ?_
  refine zv_aald X dJ6_elementAt_2 h (fun v2 h => ?_)
  exact zv_aret X rfl (Or.inl ⟨_, rfl⟩) (by first | exact Nat.le_of_ble_eq_true rfl | omega | (dsimp only; omega)) (by first | exact Nat.le_of_ble_eq_true rfl | omega | (dsimp only; omega)) dJ6_elementAt_3 ⟨h, rfl⟩
theorem md_J6_pollLast : yJ6_pollLast.cls ≠ "java/lang/invoke/MethodHandle" ∧ yJ6_pollLast.cls ≠ "java/lang/invoke/VarHandle" ∧ (parseMethodDescriptor yJ6_pollLast.desc).map (fun d => d.parameters.length) = some 0 := by decide +kernel
theorem wk_J6_pollLast (l : Launch) {D : zk_G} {g : zk_M} {b0 : Nat} {post : Option Nat → zk_H → Prop} {this : Nat} {P : zk_H} (hh : wp_J6_pollLast post this P) : Met l yJ6_pollLast (ws_ yJ6_pollLast cJ6_pollLast 4 (some (Jvm.ClassFile.FieldType.object "java/lang/Object"))) ({ frames := 1, cells := 0, slots := 0, locals := 21 } : Room) (va_Pc [.ref this] (zk_pre D g b0 P)) (va_Qq post (zk_B D b0) (zk_A b0)) 0 0 (zk_A b0) := by
  refine zk_enter "java/util/ArrayDeque" "pollLast" rfl rfl (plainFor_of_name (by decide)) [.ref this] (Nat.le_of_ble_eq_true rfl) ?_
  intro p e s m args below meth c X
  refine zk_at0 (L' := [(0, va_rf (some this))]) (rfl) ?_
  have h := hh
  unfold wp_J6_pollLast at h
  refine zv_aload_n X 0 dJ6_pollLast_0 rfl ?_
  refine zv_getf_r X fo_q391 dJ6_pollLast_1 h (fun v1 h => ?_)
  refine zv_dup X dJ6_pollLast_4 (zk_rc _) ?_
  refine zv_astore_n X (i := 1) (L' := [(1, va_rf (v1)), (0, va_rf (some this))]) dJ6_pollLast_5 rfl (by decide) rfl ?_
  refine zv_aload_n X 1 dJ6_pollLast_6 rfl ?_
  refine zv_getf_i X fo_q393 dJ6_pollLast_7 h (fun v7 h => ?_)
  refine zv_aload_n X 0 dJ6_pollLast_10 rfl ?_
  refine zv_alen X dJ6_pollLast_11 h (fun v11 h => ?_)
  refine zv_ciR ((zr_S X (As := [.int (v7), .int (v11)]) (rest := [va_rf (v1)]) (wk_J6_dec l h) (va_cwS 2 X.hts (lw_S q442 q443 q113 q444) rfl rfl rfl md_J6_dec ⟨Nat.le_of_ble_eq_true rfl, Nat.le_of_ble_eq_true rfl⟩) rfl rfl (zk_rs (Nat.le_of_ble_eq_true rfl)) dJ6_pollLast_12 ⟨by first | exact Nat.le_of_ble_eq_true rfl | omega | (dsimp only; omega), by first | exact Nat.le_of_ble_eq_true rfl | omega | (dsimp only; omega)⟩)) (fun v12 h => ?_)
  refine zv_dup X dJ6_pollLast_15 rfl ?_
  refine zv_istore_n X (i := 2) (L' := [(2, .int (v12)), (1, va_rf (v1)), (0, va_rf (some this))]) dJ6_pollLast_16 rfl (by decide) (by simp [zk_s1, zk_s2, zk_rc, zk_ic, zk_jc]) ?_
  refine zv_cqR ((zr_S X (As := [va_rf (v1), .int (v12)]) (rest := []) (wk_J6_elementAt l h) (va_cwS 2 X.hts (lw_S q445 q446 q113 q447) rfl rfl rfl md_J6_elementAt ⟨Nat.le_of_ble_eq_true rfl, Nat.le_of_ble_eq_true rfl⟩) rfl rfl (zk_rs (Nat.le_of_ble_eq_true rfl)) dJ6_pollLast_17 ⟨by first | exact Nat.le_of_ble_eq_true rfl | omega | (dsimp only; omega), by first | exact Nat.le_of_ble_eq_true rfl | omega | (dsimp only; omega)⟩)) (fun v17 h => ?_)
  refine zv_astore_n X (i := 3) (L' := [(3, va_rf (v17)), (2, .int (v12)), (1, va_rf (v1)), (0, va_rf (some this))]) dJ6_pollLast_20 rfl (by decide) rfl ?_
  refine zv_aload_n X 0 dJ6_pollLast_21 rfl ?_
  refine zv_ifnull X (tgt := 34) dJ6_pollLast_22 (by decide) h (fun h => ?_) (fun h => ?_)
  · refine zv_aload_n X 0 dJ6_pollLast_34 rfl ?_
    exact zv_aret X rfl (Or.inl ⟨_, rfl⟩) (by first | exact Nat.le_of_ble_eq_true rfl | omega | (dsimp only; omega)) (by first | exact Nat.le_of_ble_eq_true rfl | omega | (dsimp only; omega)) dJ6_pollLast_35 h
  · refine zv_aload_n X 2 dJ6_pollLast_25 rfl ?_
    refine zv_aload_n X 3 dJ6_pollLast_26 rfl ?_
    refine zv_iload_n X 1 dJ6_pollLast_27 rfl ?_
    refine zv_dup_x1 X dJ6_pollLast_28 rfl (zk_rc _) ?_
    refine zv_put_i X fp_q393 (fun z => by cases z) dJ6_pollLast_29 h (fun P29 h => ?_)
    refine zv_null X dJ6_pollLast_32 ?_
    refine zv_aast X zk_mayok dJ6_pollLast_33 h (fun P33 h => ?_)
    refine zv_aload_n X 0 dJ6_pollLast_34 rfl ?_
    exact zv_aret X rfl (Or.inl ⟨_, rfl⟩) (by first | exact Nat.le_of_ble_eq_true rfl | omega | (dsimp only; omega)) (by first | exact Nat.le_of_ble_eq_true rfl | omega | (dsimp only; omega)) dJ6_pollLast_35 h
theorem md_J6_removeLast : yJ6_removeLast.cls ≠ "java/lang/invoke/MethodHandle" ∧ yJ6_removeLast.cls ≠ "java/lang/invoke/VarHandle" ∧ (parseMethodDescriptor yJ6_removeLast.desc).map (fun d => d.parameters.length) = some 0 := by decide +kernel
theorem wk_J6_removeLast (l : Launch) {D : zk_G} {g : zk_M} {b0 : Nat} {post : Option Nat → zk_H → Prop} {this : Nat} {P : zk_H} (hh : wp_J6_removeLast post this P) : Met l yJ6_removeLast (ws_ yJ6_removeLast cJ6_removeLast 2 (some (Jvm.ClassFile.FieldType.object "java/lang/Object"))) ({ frames := 2, cells := 0, slots := 0, locals := 44 } : Room) (va_Pc [.ref this] (zk_pre D g b0 P)) (va_Qq post (zk_B D b0) (zk_A b0)) 0 0 (zk_A b0) := by
  refine zk_enter "java/util/ArrayDeque" "removeLast" rfl rfl (plainFor_of_name (by decide)) [.ref this] (Nat.le_of_ble_eq_true rfl) ?_
  intro p e s m args below meth c X
  refine zk_at0 (L' := [(0, va_rf (some this))]) (rfl) ?_
  have h := hh
  unfold wp_J6_removeLast at h
  refine zv_aload_n X 0 dJ6_removeLast_0 rfl ?_
  refine zv_cq ((zr_Vl X (As := []) (rest := []) h (fun a h => wk_J6_pollLast l h) (zk_l1 ⟨_, rfl, cwV 0 X.hts (lw_V q438 q439 q440 q113 q441) rfl rfl rfl ⟨rfl, md_J6_pollLast⟩ ⟨Nat.le_of_ble_eq_true rfl, Nat.le_of_ble_eq_true rfl⟩⟩) rfl rfl (zk_rs (Nat.le_of_ble_eq_true rfl)) dJ6_removeLast_1 ⟨by first | exact Nat.le_of_ble_eq_true rfl | omega | (dsimp only; omega), by first | exact Nat.le_of_ble_eq_true rfl | omega | (dsimp only; omega)⟩)) (fun v1 P1 h => ?_)
  refine zv_astore_n X (i := 1) (L' := [(1, va_rf (v1)), (0, va_rf (some this))]) dJ6_removeLast_4 rfl (by decide) rfl ?_
  refine zv_aload_n X 0 dJ6_removeLast_5 rfl ?_
  refine zv_ifnonnull X (tgt := 17) dJ6_removeLast_6 (by decide) h (fun h => ?_) (fun h => ?_)
  · refine zv_aload_n X 0 dJ6_removeLast_17 rfl ?_
    exact zv_aret X rfl (Or.inl ⟨_, rfl⟩) (by first | exact Nat.le_of_ble_eq_true rfl | omega | (dsimp only; omega)) (by first | exact Nat.le_of_ble_eq_true rfl | omega | (dsimp only; omega)) dJ6_removeLast_18 h
  · exact h.elim
theorem md_J6_sub : yJ6_sub.cls ≠ "java/lang/invoke/MethodHandle" ∧ yJ6_sub.cls ≠ "java/lang/invoke/VarHandle" ∧ (parseMethodDescriptor yJ6_sub.desc).map (fun d => d.parameters.length) = some 3 := by decide +kernel
theorem wk_J6_sub (l : Launch) {D : zk_G} {g : zk_M} {b0 : Nat} {post : Int32 → Prop} {x0 : Int32} {x1 : Int32} {x2 : Int32} {P : zk_H} (hh : wp_J6_sub post x0 x1 x2) : Met l yJ6_sub (ws_ yJ6_sub cJ6_sub 3 (some Jvm.ClassFile.FieldType.int)) ({ frames := 0, cells := 0, slots := 0, locals := 0 } : Room) (va_Pc [.int (x0), .int (x1), .int (x2)] (zk_pre D g b0 P)) (va_Qi (fun r u => post r ∧ u = P) (zk_B D b0) (zk_A b0)) 0 0 (zk_A b0) := by
  refine zk_enter "java/util/ArrayDeque" "sub" rfl rfl (plainFor_of_name (by decide)) [.int (x0), .int (x1), .int (x2)] (Nat.le_of_ble_eq_true rfl) ?_
  intro p e s m args below meth c X
  refine zk_at0 (L' := [(0, .int (x0)), (1, .int (x1)), (2, .int (x2))]) (rfl) ?_
  have h := hh
  unfold wp_J6_sub at h
  refine zv_iload_n X 0 dJ6_sub_0 rfl ?_
  refine zv_iload_n X 1 dJ6_sub_1 rfl ?_
  refine zv_isub X dJ6_sub_2 ?_
  refine zv_dup X dJ6_sub_3 rfl ?_
  refine zv_top_i h (fun v4 h => ?_)
  refine zv_istore_n X (i := 0) (L' := [(0, .int (v4)), (1, .int (x1)), (2, .int (x2))]) dJ6_sub_4 rfl (by decide) rfl ?_
  refine zv_if_ge X (tgt := 12) dJ6_sub_5 (by decide) h (fun h => ?_) (fun h => ?_)
  · refine zv_iload_n X 0 dJ6_sub_12 rfl ?_
    exact zv_iret X rfl (by first | exact Nat.le_of_ble_eq_true rfl | omega | (dsimp only; omega)) (by first | exact Nat.le_of_ble_eq_true rfl | omega | (dsimp only; omega)) dJ6_sub_13 ⟨h, rfl⟩
  · refine zv_iload_n X 0 dJ6_sub_8 rfl ?_
    refine zv_iload_n X 2 dJ6_sub_9 rfl ?_
    refine zv_iadd X dJ6_sub_10 ?_
    refine zv_top_i h (fun v11 h => ?_)
    refine zv_istore_n X (i := 0) (L' := [(0, .int (v11)), (1, .int (x1)), (2, .int (x2))]) dJ6_sub_11 rfl (by decide) rfl ?_
    refine zv_iload_n X 0 dJ6_sub_12 rfl ?_
    exact zv_iret X rfl (by first | exact Nat.le_of_ble_eq_true rfl | omega | (dsimp only; omega)) (by first | exact Nat.le_of_ble_eq_true rfl | omega | (dsimp only; omega)) dJ6_sub_13 ⟨h, rfl⟩
theorem md_J6_size : yJ6_size.cls ≠ "java/lang/invoke/MethodHandle" ∧ yJ6_size.cls ≠ "java/lang/invoke/VarHandle" ∧ (parseMethodDescriptor yJ6_size.desc).map (fun d => d.parameters.length) = some 0 := by decide +kernel
theorem wk_J6_size (l : Launch) {D : zk_G} {g : zk_M} {b0 : Nat} {post : Int32 → Prop} {this : Nat} {P : zk_H} (hh : wp_J6_size post this P) : Met l yJ6_size (ws_ yJ6_size cJ6_size 1 (some Jvm.ClassFile.FieldType.int)) ({ frames := 1, cells := 0, slots := 0, locals := 22 } : Room) (va_Pc [.ref this] (zk_pre D g b0 P)) (va_Qi (fun r u => post r ∧ u = P) (zk_B D b0) (zk_A b0)) 0 0 (zk_A b0) := by
  refine zk_enter "java/util/ArrayDeque" "size" rfl rfl (plainFor_of_name (by decide)) [.ref this] (Nat.le_of_ble_eq_true rfl) ?_
  intro p e s m args below meth c X
  refine zk_at0 (L' := [(0, va_rf (some this))]) (rfl) ?_
  have h := hh
  unfold wp_J6_size at h
  refine zv_aload_n X 0 dJ6_size_0 rfl ?_
  refine zv_getf_i X fo_q393 dJ6_size_1 h (fun v1 h => ?_)
  refine zv_aload_n X 0 dJ6_size_4 rfl ?_
  refine zv_getf_i X fo_q392 dJ6_size_5 h (fun v5 h => ?_)
  refine zv_aload_n X 0 dJ6_size_8 rfl ?_
  refine zv_getf_r X fo_q391 dJ6_size_9 h (fun v9 h => ?_)
  refine zv_alen X dJ6_size_12 h (fun v12 h => ?_)
  refine zv_ciR ((zr_S X (As := [.int (v1), .int (v5), .int (v12)]) (rest := []) (wk_J6_sub l h) (va_cwS 3 X.hts (lw_S q452 q453 q113 q454) rfl rfl rfl md_J6_sub ⟨Nat.le_of_ble_eq_true rfl, Nat.le_of_ble_eq_true rfl⟩) rfl rfl (zk_rs (Nat.le_of_ble_eq_true rfl)) dJ6_size_13 ⟨by first | exact Nat.le_of_ble_eq_true rfl | omega | (dsimp only; omega), by first | exact Nat.le_of_ble_eq_true rfl | omega | (dsimp only; omega)⟩)) (fun v13 h => ?_)
  exact zv_iret X rfl (by first | exact Nat.le_of_ble_eq_true rfl | omega | (dsimp only; omega)) (by first | exact Nat.le_of_ble_eq_true rfl | omega | (dsimp only; omega)) dJ6_size_16 ⟨h, rfl⟩
theorem md_J2_toArray : yJ2_toArray.cls ≠ "java/lang/invoke/MethodHandle" ∧ yJ2_toArray.cls ≠ "java/lang/invoke/VarHandle" ∧ (parseMethodDescriptor yJ2_toArray.desc).map (fun d => d.parameters.length) = some 0 := by decide +kernel
theorem wk_J2_toArray (l : Launch) {D : zk_G} {g : zk_M} {b0 : Nat} {post : Option Nat → zk_H → Prop} {this : Nat} {P : zk_H} (hh : wp_J2_toArray g post this P) : Met l yJ2_toArray (ws_ yJ2_toArray cJ2_toArray 1 (some (Jvm.ClassFile.FieldType.array (Jvm.ClassFile.FieldType.object "java/lang/Object")))) ({ frames := 3, cells := 1, slots := 96, locals := 84 } : Room) (va_Pc [.ref this] (zk_pre D g b0 P)) (va_Qq post (zk_B D b0) (zk_A b0)) 1 96 (zk_A b0) := by
  refine zk_enter "java/util/ArrayList" "toArray" rfl rfl (plainFor_of_name (by decide)) [.ref this] (Nat.le_of_ble_eq_true rfl) ?_
  intro p e s m args below meth c X
  refine zk_at0 (L' := [(0, va_rf (some this))]) (rfl) ?_
  have h := hh
  unfold wp_J2_toArray at h
  refine zv_aload_n X 0 dJ2_toArray_0 rfl ?_
  refine zv_getf_r X fo_q171 dJ2_toArray_1 h (fun v1 h => ?_)
  refine zv_aload_n X 0 dJ2_toArray_4 rfl ?_
  refine zv_getf_i X fo_q172 dJ2_toArray_5 h (fun v5 h => ?_)
  refine zv_cq ((zr_S X (As := [va_rf (v1), .int (v5)]) (rest := []) (wk_J5_copyOf l h) (va_cwS 2 X.hts (lw_S q251 q252 q109 q253) rfl rfl rfl md_J5_copyOf ⟨Nat.le_of_ble_eq_true rfl, Nat.le_of_ble_eq_true rfl⟩) rfl rfl (zk_rs (Nat.le_of_ble_eq_true rfl)) dJ2_toArray_8 ⟨by first | exact Nat.le_of_ble_eq_true rfl | omega | (dsimp only; omega), by first | exact Nat.le_of_ble_eq_true rfl | omega | (dsimp only; omega)⟩)) (fun v8 P8 h => ?_)
  exact zv_aret X rfl (Or.inr ⟨_, rfl⟩) (by first | exact Nat.le_of_ble_eq_true rfl | omega | (dsimp only; omega)) (by first | exact Nat.le_of_ble_eq_true rfl | omega | (dsimp only; omega)) dJ2_toArray_11 h
theorem kj_J2_addAll_56 {p : Program} {l : Launch} {e : Env} {s : State} {m : MethodId} {args : Array Value} {below : List Frame} {meth : Method} {c : Code} {D : zk_G} {g : zk_M} {b0 : Nat} (X : zk_X p s m args meth c D g b0 cJ2_addAll 6 "java/util/ArrayList" "addAll" (some Jvm.ClassFile.FieldType.boolean)) {post : Int32 → zk_H → Prop}  {a0 : Option Nat} {a2 : Option Nat} {a3 : Int32} {a4 : Option Nat} {a5 : Int32} {P : zk_H}    (hh : wj_J2_addAll_56 g post a0 a2 a3 a4 a5 P) : zV p l e ({ frames := 4, cells := 2, slots := 192, locals := 107 } : Room) s m args below meth c D b0 6 (2) (192) (MQ below (va_Qi post (zk_B D b0) (zk_A b0)) args s 2 192 (zk_A b0)) P 56 [(0, va_rf (a0)), (2, va_rf (a2)), (3, .int (a3)), (4, va_rf (a4)), (5, .int (a5))] [] := by
  have h := hh
  unfold wj_J2_addAll_56 at h
  refine zv_aload_n X 1 dJ2_addAll_56 rfl ?_
  refine zv_iconst X (v := 0) dJ2_addAll_57 rfl ?_
  refine zv_aload X 3 dJ2_addAll_58 rfl ?_
  refine zv_iload X 4 dJ2_addAll_60 rfl ?_
  refine zv_iload_n X 2 dJ2_addAll_62 rfl ?_
  refine zv_copyQ X zk_mayok q500 ⟨by first | decide | (dsimp only; decide), by first | decide | (dsimp only; decide)⟩ (zk_rs (Nat.le_of_ble_eq_true rfl)) dJ2_addAll_63 h (fun P63 h => ?_)
  refine zv_aload_n X 0 dJ2_addAll_66 rfl ?_
  refine zv_iload X 4 dJ2_addAll_67 rfl ?_
  refine zv_iload_n X 2 dJ2_addAll_69 rfl ?_
  refine zv_iadd X dJ2_addAll_70 ?_
  refine zv_put_i X fp_q172 (fun z => by cases z) dJ2_addAll_71 h (fun P71 h => ?_)
  refine zv_iconst X (v := 1) dJ2_addAll_74 rfl ?_
  exact zv_zret X (ty := .boolean) rfl (by first | exact Nat.le_of_ble_eq_true rfl | omega | (dsimp only; omega)) (by first | exact Nat.le_of_ble_eq_true rfl | omega | (dsimp only; omega)) dJ2_addAll_75 ⟨rfl, h⟩
theorem md_J2_addAll : yJ2_addAll.cls ≠ "java/lang/invoke/MethodHandle" ∧ yJ2_addAll.cls ≠ "java/lang/invoke/VarHandle" ∧ (parseMethodDescriptor yJ2_addAll.desc).map (fun d => d.parameters.length) = some 1 := by decide +kernel
theorem wk_J2_addAll (l : Launch) {D : zk_G} {g : zk_M} {b0 : Nat} {post : Int32 → zk_H → Prop} {this : Nat} {x1 : Option Nat} {P : zk_H} (hh : wp_J2_addAll g post this x1 P) : Met l yJ2_addAll (ws_ yJ2_addAll cJ2_addAll 6 (some Jvm.ClassFile.FieldType.boolean)) ({ frames := 4, cells := 2, slots := 192, locals := 107 } : Room) (va_Pc [.ref this, va_rf (x1)] (zk_pre D g b0 P)) (va_Qi post (zk_B D b0) (zk_A b0)) 2 192 (zk_A b0) := by
  refine zk_enter "java/util/ArrayList" "addAll" rfl rfl (plainFor_of_name (by decide)) [.ref this, va_rf (x1)] (by cases x1 <;> exact Nat.le_of_ble_eq_true rfl) ?_
  intro p e s m args below meth c X
  refine zk_at0 (L' := [(0, va_rf (some this)), (1, va_rf (x1))]) (by cases x1 <;> rfl) ?_
  have h := hh
  unfold wp_J2_addAll at h
  refine zv_aload_n X 1 dJ2_addAll_0 rfl ?_
  refine zv_cq5 ((zr_Fl X (As := []) (rest := []) h (fun a h => wk_J2_toArray l h) (zk_l1 ⟨_, rfl, va_cwF 0 X.hts (zk_wsF q476 q495 q497 q106 q499) rfl rfl rfl (X.fw (i := 0) rfl) ⟨by decide, by decide, md_J2_toArray.2.2⟩ ⟨Nat.le_of_ble_eq_true rfl, Nat.le_of_ble_eq_true rfl⟩⟩) rfl rfl (zk_rs (Nat.le_of_ble_eq_true rfl)) dJ2_addAll_1 ⟨by first | exact Nat.le_of_ble_eq_true rfl | omega | (dsimp only; omega), by first | exact Nat.le_of_ble_eq_true rfl | omega | (dsimp only; omega)⟩)) (fun v1 P1 h => ?_)
  refine zv_astore_n X (i := 2) (L' := [(2, va_rf (v1)), (0, va_rf (some this)), (1, va_rf (x1))]) dJ2_addAll_6 rfl (by decide) (by simp [zk_s1, zk_s2, zk_rc, zk_ic, zk_jc]) ?_
  refine zv_aload_n X 1 dJ2_addAll_7 rfl ?_
  refine zv_dup X dJ2_addAll_8 (zk_rc _) ?_
  refine zv_getf_i X fo_q174 dJ2_addAll_9 h (fun v9 h => ?_)
  refine zv_iconst X (v := 1) dJ2_addAll_12 rfl ?_
  refine zv_iadd X dJ2_addAll_13 ?_
  refine zv_put_i X fp_q174 (fun z => by cases z) dJ2_addAll_14 h (fun P14 h => ?_)
  refine zv_aload_n X 0 dJ2_addAll_17 rfl ?_
  refine zv_alen X dJ2_addAll_18 h (fun v18 h => ?_)
  refine zv_istore_n X (i := 3) (L' := [(3, .int (v18)), (2, va_rf (v1)), (0, va_rf (some this)), (1, va_rf (x1))]) dJ2_addAll_19 rfl (by decide) (by simp [zk_s1, zk_s2, zk_rc, zk_ic, zk_jc]) ?_
  refine zv_iload_n X 0 dJ2_addAll_20 rfl ?_
  refine zv_if_ne X (tgt := 26) dJ2_addAll_21 (by decide) h (fun h => ?_) (fun h => ?_)
  · refine zv_iload_n X 0 dJ2_addAll_26 rfl ?_
    refine zv_aload_n X 2 dJ2_addAll_27 rfl ?_
    refine zv_getf_r X fo_q171 dJ2_addAll_28 h (fun v28 h => ?_)
    refine zv_dup X dJ2_addAll_31 (zk_rc _) ?_
    refine zv_astore X (L' := [(4, va_rf (v28)), (3, .int (v18)), (2, va_rf (v1)), (0, va_rf (some this)), (1, va_rf (x1))]) dJ2_addAll_32 (by decide) rfl ?_
    refine zv_alen X dJ2_addAll_34 h (fun v34 h => ?_)
    refine zv_aload_n X 3 dJ2_addAll_35 rfl ?_
    refine zv_getf_i X fo_q172 dJ2_addAll_36 h (fun v36 h => ?_)
    refine zv_dup X dJ2_addAll_39 rfl ?_
    refine zv_istore X (L' := [(5, .int (v36)), (4, va_rf (v28)), (3, .int (v18)), (2, va_rf (v1)), (0, va_rf (some this)), (1, va_rf (x1))]) dJ2_addAll_40 (by decide) (by simp [zk_s1, zk_s2, zk_rc, zk_ic, zk_jc]) ?_
    refine zv_isub X dJ2_addAll_42 ?_
    refine zv_icmp_le X (tgt := 56) dJ2_addAll_43 (by decide) h (fun h => ?_) (fun h => ?_)
    · refine zv_sub (L' := [(0, va_rf (some this)), (2, va_rf (v1)), (3, .int (v18)), (4, va_rf (v28)), (5, .int (v36))]) [4, 3, 2, 1, 0] rfl ?_
      refine zv_widen (c2 := 2) (s2 := 192) (by first | exact Nat.le_of_ble_eq_true rfl | omega | (dsimp only; omega)) (by first | exact Nat.le_of_ble_eq_true rfl | omega | (dsimp only; omega)) ?_
      exact kj_J2_addAll_56 X  h
    · refine zv_aload_n X 4 dJ2_addAll_46 rfl ?_
      refine zv_iload X 0 dJ2_addAll_47 rfl ?_
      refine zv_iload_n X 2 dJ2_addAll_49 rfl ?_
      refine zv_iadd X dJ2_addAll_50 ?_
      refine zv_cq ((zr_Vl X (As := [.int (v36 + v18)]) (rest := []) h (fun a h => wk_J2_grow_2 l h) (zk_l1 ⟨_, rfl, cwV 1 X.hts (lw_V q237 q239 qs2 q106 q240) rfl rfl rfl ⟨rfl, md_J2_grow_2⟩ ⟨Nat.le_of_ble_eq_true rfl, Nat.le_of_ble_eq_true rfl⟩⟩) rfl rfl (zk_rs (Nat.le_of_ble_eq_true rfl)) dJ2_addAll_51 ⟨by first | exact Nat.le_of_ble_eq_true rfl | omega | (dsimp only; omega), by first | exact Nat.le_of_ble_eq_true rfl | omega | (dsimp only; omega)⟩)) (fun v51 P51 h => ?_)
      refine zv_astore X (L' := [(4, va_rf (v51)), (5, .int (v36)), (3, .int (v18)), (2, va_rf (v1)), (0, va_rf (some this)), (1, va_rf (x1))]) dJ2_addAll_54 (by decide) rfl ?_
      refine zv_sub (L' := [(0, va_rf (some this)), (2, va_rf (v1)), (3, .int (v18)), (4, va_rf (v51)), (5, .int (v36))]) [4, 3, 2, 0, 1] rfl ?_
      refine zv_widen (c2 := 2) (s2 := 192) (by first | exact Nat.le_of_ble_eq_true rfl | omega | (dsimp only; omega)) (by first | exact Nat.le_of_ble_eq_true rfl | omega | (dsimp only; omega)) ?_
      exact kj_J2_addAll_56 X  h
  · refine zv_iconst X (v := 0) dJ2_addAll_24 rfl ?_
    exact zv_zret X (ty := .boolean) rfl (by first | exact Nat.le_of_ble_eq_true rfl | omega | (dsimp only; omega)) (by first | exact Nat.le_of_ble_eq_true rfl | omega | (dsimp only; omega)) dJ2_addAll_25 ⟨rfl, h⟩
theorem kj_J12_checkIndex_9 {p : Program} {l : Launch} {e : Env} {s : State} {m : MethodId} {args : Array Value} {below : List Frame} {meth : Method} {c : Code} {D : zk_G} {g : zk_M} {b0 : Nat} (X : zk_X p s m args meth c D g b0 cJ12_checkIndex 3 "jdk/internal/util/Preconditions" "checkIndex" (some Jvm.ClassFile.FieldType.int)) {post : Int32 → Prop}  {a0 : Int32} {a1 : Int32} {a2 : Option Nat} {P : zk_H}    (hh : wj_J12_checkIndex_9 post a0 a1 a2) : zV p l e ({ frames := 0, cells := 0, slots := 0, locals := 0 } : Room) s m args below meth c D b0 3 (0) (0) (MQ below (va_Qi (fun r u => post r ∧ u = P) (zk_B D b0) (zk_A b0)) args s 0 0 (zk_A b0)) P 9 [(0, .int (a0)), (1, .int (a1)), (2, va_rf (a2))] [] := by
  have h := hh
  unfold wj_J12_checkIndex_9 at h
  refine zv_aload_n X 2 dJ12_checkIndex_9 rfl ?_
  refine zv_iload_n X 0 dJ12_checkIndex_10 rfl ?_
  refine zv_iload_n X 1 dJ12_checkIndex_11 rfl ?_
  exact h.elim
theorem md_J12_checkIndex : yJ12_checkIndex.cls ≠ "java/lang/invoke/MethodHandle" ∧ yJ12_checkIndex.cls ≠ "java/lang/invoke/VarHandle" ∧ (parseMethodDescriptor yJ12_checkIndex.desc).map (fun d => d.parameters.length) = some 3 := by decide +kernel
theorem wk_J12_checkIndex (l : Launch) {D : zk_G} {g : zk_M} {b0 : Nat} {post : Int32 → Prop} {x0 : Int32} {x1 : Int32} {x2 : Option Nat} {P : zk_H} (hh : wp_J12_checkIndex post x0 x1 x2) : Met l yJ12_checkIndex (ws_ yJ12_checkIndex cJ12_checkIndex 3 (some Jvm.ClassFile.FieldType.int)) ({ frames := 0, cells := 0, slots := 0, locals := 0 } : Room) (va_Pc [.int (x0), .int (x1), va_rf (x2)] (zk_pre D g b0 P)) (va_Qi (fun r u => post r ∧ u = P) (zk_B D b0) (zk_A b0)) 0 0 (zk_A b0) := by
  refine zk_enter "jdk/internal/util/Preconditions" "checkIndex" rfl rfl (plainFor_of_name (by decide)) [.int (x0), .int (x1), va_rf (x2)] (by cases x2 <;> exact Nat.le_of_ble_eq_true rfl) ?_
  intro p e s m args below meth c X
  refine zk_at0 (L' := [(0, .int (x0)), (1, .int (x1)), (2, va_rf (x2))]) (by cases x2 <;> rfl) ?_
  have h := hh
  unfold wp_J12_checkIndex at h
  refine zv_iload_n X 0 dJ12_checkIndex_0 rfl ?_
  refine zv_if_lt X (tgt := 9) dJ12_checkIndex_1 (by decide) h (fun h => ?_) (fun h => ?_)
  · exact kj_J12_checkIndex_9 X  h
  · refine zv_iload_n X 0 dJ12_checkIndex_4 rfl ?_
    refine zv_iload_n X 1 dJ12_checkIndex_5 rfl ?_
    refine zv_icmp_lt X (tgt := 16) dJ12_checkIndex_6 (by decide) h (fun h => ?_) (fun h => ?_)
    · refine zv_iload_n X 0 dJ12_checkIndex_16 rfl ?_
      exact zv_iret X rfl (by first | exact Nat.le_of_ble_eq_true rfl | omega | (dsimp only; omega)) (by first | exact Nat.le_of_ble_eq_true rfl | omega | (dsimp only; omega)) dJ12_checkIndex_17 ⟨h, rfl⟩
    · exact kj_J12_checkIndex_9 X  h
theorem md_J15_checkIndex : yJ15_checkIndex.cls ≠ "java/lang/invoke/MethodHandle" ∧ yJ15_checkIndex.cls ≠ "java/lang/invoke/VarHandle" ∧ (parseMethodDescriptor yJ15_checkIndex.desc).map (fun d => d.parameters.length) = some 2 := by decide +kernel
theorem wk_J15_checkIndex (l : Launch) {D : zk_G} {g : zk_M} {b0 : Nat} {post : Int32 → Prop} {x0 : Int32} {x1 : Int32} {P : zk_H} (hh : wp_J15_checkIndex post x0 x1) : Met l yJ15_checkIndex (ws_ yJ15_checkIndex cJ15_checkIndex 2 (some Jvm.ClassFile.FieldType.int)) ({ frames := 1, cells := 0, slots := 0, locals := 22 } : Room) (va_Pc [.int (x0), .int (x1)] (zk_pre D g b0 P)) (va_Qi (fun r u => post r ∧ u = P) (zk_B D b0) (zk_A b0)) 0 0 (zk_A b0) := by
  refine zk_enter "java/util/Objects" "checkIndex" rfl rfl (plainFor_of_name (by decide)) [.int (x0), .int (x1)] (Nat.le_of_ble_eq_true rfl) ?_
  intro p e s m args below meth c X
  refine zk_at0 (L' := [(0, .int (x0)), (1, .int (x1))]) (rfl) ?_
  have h := hh
  unfold wp_J15_checkIndex at h
  refine zv_iload_n X 0 dJ15_checkIndex_0 rfl ?_
  refine zv_iload_n X 1 dJ15_checkIndex_1 rfl ?_
  refine zv_null X dJ15_checkIndex_2 ?_
  refine zv_ciR ((zr_S X (As := [.int (x0), .int (x1), va_rf (none)]) (rest := []) (wk_J12_checkIndex l h) (va_cwS 3 X.hts (lw_S q512 q513 q121 q514) rfl rfl rfl md_J12_checkIndex ⟨Nat.le_of_ble_eq_true rfl, Nat.le_of_ble_eq_true rfl⟩) rfl rfl (zk_rs (Nat.le_of_ble_eq_true rfl)) dJ15_checkIndex_3 ⟨by first | exact Nat.le_of_ble_eq_true rfl | omega | (dsimp only; omega), by first | exact Nat.le_of_ble_eq_true rfl | omega | (dsimp only; omega)⟩)) (fun v3 h => ?_)
  exact zv_iret X rfl (by first | exact Nat.le_of_ble_eq_true rfl | omega | (dsimp only; omega)) (by first | exact Nat.le_of_ble_eq_true rfl | omega | (dsimp only; omega)) dJ15_checkIndex_6 ⟨h, rfl⟩
theorem md_J2_elementData : yJ2_elementData.cls ≠ "java/lang/invoke/MethodHandle" ∧ yJ2_elementData.cls ≠ "java/lang/invoke/VarHandle" ∧ (parseMethodDescriptor yJ2_elementData.desc).map (fun d => d.parameters.length) = some 1 := by decide +kernel
theorem wk_J2_elementData (l : Launch) {D : zk_G} {g : zk_M} {b0 : Nat} {post : Option Nat → Prop} {this : Nat} {x1 : Int32} {P : zk_H} (hh : wp_J2_elementData post this x1 P) : Met l yJ2_elementData (ws_ yJ2_elementData cJ2_elementData 2 (some (Jvm.ClassFile.FieldType.object "java/lang/Object"))) ({ frames := 0, cells := 0, slots := 0, locals := 0 } : Room) (va_Pc [.ref this, .int (x1)] (zk_pre D g b0 P)) (va_Qq (fun r u => post r ∧ u = P) (zk_B D b0) (zk_A b0)) 0 0 (zk_A b0) := by
  refine zk_enter "java/util/ArrayList" "elementData" rfl rfl (plainFor_of_name (by decide)) [.ref this, .int (x1)] (Nat.le_of_ble_eq_true rfl) ?_
  intro p e s m args below meth c X
  refine zk_at0 (L' := [(0, va_rf (some this)), (1, .int (x1))]) (rfl) ?_
  have h := hh
  unfold wp_J2_elementData at h
  refine zv_aload_n X 0 dJ2_elementData_0 rfl ?_
  refine zv_getf_r X fo_q171 dJ2_elementData_1 h (fun v1 h => ?_)
  refine zv_iload_n X 1 dJ2_elementData_4 rfl ?_
  refine zv_aald X dJ2_elementData_5 h (fun v5 h => ?_)
  exact zv_aret X rfl (Or.inl ⟨_, rfl⟩) (by first | exact Nat.le_of_ble_eq_true rfl | omega | (dsimp only; omega)) (by first | exact Nat.le_of_ble_eq_true rfl | omega | (dsimp only; omega)) dJ2_elementData_6 ⟨h, rfl⟩
theorem md_J2_get : yJ2_get.cls ≠ "java/lang/invoke/MethodHandle" ∧ yJ2_get.cls ≠ "java/lang/invoke/VarHandle" ∧ (parseMethodDescriptor yJ2_get.desc).map (fun d => d.parameters.length) = some 1 := by decide +kernel
theorem wk_J2_get (l : Launch) {D : zk_G} {g : zk_M} {b0 : Nat} {post : Option Nat → Prop} {this : Nat} {x1 : Int32} {P : zk_H} (hh : wp_J2_get post this x1 P) : Met l yJ2_get (ws_ yJ2_get cJ2_get 2 (some (Jvm.ClassFile.FieldType.object "java/lang/Object"))) ({ frames := 2, cells := 0, slots := 0, locals := 43 } : Room) (va_Pc [.ref this, .int (x1)] (zk_pre D g b0 P)) (va_Qq (fun r u => post r ∧ u = P) (zk_B D b0) (zk_A b0)) 0 0 (zk_A b0) := by
  refine zk_enter "java/util/ArrayList" "get" rfl rfl (plainFor_of_name (by decide)) [.ref this, .int (x1)] (Nat.le_of_ble_eq_true rfl) ?_
  intro p e s m args below meth c X
  refine zk_at0 (L' := [(0, va_rf (some this)), (1, .int (x1))]) (rfl) ?_
  have h := hh
  unfold wp_J2_get at h
  refine zv_iload_n X 1 dJ2_get_0 rfl ?_
  refine zv_aload_n X 0 dJ2_get_1 rfl ?_
  refine zv_getf_i X fo_q172 dJ2_get_2 h (fun v2 h => ?_)
  refine zv_ciR ((zr_S X (As := [.int (x1), .int (v2)]) (rest := []) (wk_J15_checkIndex l h) (va_cwS 2 X.hts (lw_S q509 q510 q125 q511) rfl rfl rfl md_J15_checkIndex ⟨Nat.le_of_ble_eq_true rfl, Nat.le_of_ble_eq_true rfl⟩) rfl rfl (zk_rs (Nat.le_of_ble_eq_true rfl)) dJ2_get_5 ⟨by first | exact Nat.le_of_ble_eq_true rfl | omega | (dsimp only; omega), by first | exact Nat.le_of_ble_eq_true rfl | omega | (dsimp only; omega)⟩)) (fun v5 h => ?_)
  refine zv_pop X dJ2_get_8 rfl ?_
  refine zv_aload_n X 0 dJ2_get_9 rfl ?_
  refine zv_iload_n X 1 dJ2_get_10 rfl ?_
  refine zv_cqR ((zr_Vl X (As := [.int (x1)]) (rest := []) h (fun a h => wk_J2_elementData l h) (zk_l1 ⟨_, rfl, cwV 1 X.hts (lw_V q515 q516 q517 q106 q518) rfl rfl rfl ⟨rfl, md_J2_elementData⟩ ⟨Nat.le_of_ble_eq_true rfl, Nat.le_of_ble_eq_true rfl⟩⟩) rfl rfl (zk_rs (Nat.le_of_ble_eq_true rfl)) dJ2_get_11 ⟨by first | exact Nat.le_of_ble_eq_true rfl | omega | (dsimp only; omega), by first | exact Nat.le_of_ble_eq_true rfl | omega | (dsimp only; omega)⟩)) (fun v11 h => ?_)
  exact zv_aret X rfl (Or.inl ⟨_, rfl⟩) (by first | exact Nat.le_of_ble_eq_true rfl | omega | (dsimp only; omega)) (by first | exact Nat.le_of_ble_eq_true rfl | omega | (dsimp only; omega)) dJ2_get_14 ⟨h, rfl⟩
theorem md_J16_wordIndex : yJ16_wordIndex.cls ≠ "java/lang/invoke/MethodHandle" ∧ yJ16_wordIndex.cls ≠ "java/lang/invoke/VarHandle" ∧ (parseMethodDescriptor yJ16_wordIndex.desc).map (fun d => d.parameters.length) = some 1 := by decide +kernel
theorem wk_J16_wordIndex (l : Launch) {D : zk_G} {g : zk_M} {b0 : Nat} {post : Int32 → Prop} {x0 : Int32} {P : zk_H} (hh : wp_J16_wordIndex post x0) : Met l yJ16_wordIndex (ws_ yJ16_wordIndex cJ16_wordIndex 1 (some Jvm.ClassFile.FieldType.int)) ({ frames := 0, cells := 0, slots := 0, locals := 0 } : Room) (va_Pc [.int (x0)] (zk_pre D g b0 P)) (va_Qi (fun r u => post r ∧ u = P) (zk_B D b0) (zk_A b0)) 0 0 (zk_A b0) := by
  refine zk_enter "java/util/BitSet" "wordIndex" rfl rfl (plainFor_of_name (by decide)) [.int (x0)] (Nat.le_of_ble_eq_true rfl) ?_
  intro p e s m args below meth c X
  refine zk_at0 (L' := [(0, .int (x0))]) (rfl) ?_
  have h := hh
  unfold wp_J16_wordIndex at h
  refine zv_iload_n X 0 dJ16_wordIndex_0 rfl ?_
  refine zv_bipush X (v := 6) dJ16_wordIndex_1 rfl ?_
  refine zv_ishr X dJ16_wordIndex_3 ?_
  exact zv_iret X rfl (by first | exact Nat.le_of_ble_eq_true rfl | omega | (dsimp only; omega)) (by first | exact Nat.le_of_ble_eq_true rfl | omega | (dsimp only; omega)) dJ16_wordIndex_4 ⟨h, rfl⟩
theorem md_J16_initWords : yJ16_initWords.cls ≠ "java/lang/invoke/MethodHandle" ∧ yJ16_initWords.cls ≠ "java/lang/invoke/VarHandle" ∧ (parseMethodDescriptor yJ16_initWords.desc).map (fun d => d.parameters.length) = some 1 := by decide +kernel
theorem wk_J16_initWords (l : Launch) {D : zk_G} {g : zk_M} {b0 : Nat} {post : zk_H → Prop} {this : Nat} {x1 : Int32} {P : zk_H} (hh : wp_J16_initWords post this x1 P) : Met l yJ16_initWords (ws_ yJ16_initWords cJ16_initWords 2 none) ({ frames := 1, cells := 1, slots := 1, locals := 20 } : Room) (va_Pc [.ref this, .int (x1)] (zk_pre D g b0 P)) (va_Qv post (zk_B D b0) (zk_A b0)) 1 1 (zk_A b0) := by
  refine zk_enter "java/util/BitSet" "initWords" rfl rfl (plainFor_of_name (by decide)) [.ref this, .int (x1)] (Nat.le_of_ble_eq_true rfl) ?_
  intro p e s m args below meth c X
  refine zk_at0 (L' := [(0, va_rf (some this)), (1, .int (x1))]) (rfl) ?_
  have h := hh
  unfold wp_J16_initWords at h
  refine zv_aload_n X 0 dJ16_initWords_0 rfl ?_
  refine zv_iload_n X 1 dJ16_initWords_1 rfl ?_
  refine zv_iconst X (v := 1) dJ16_initWords_2 rfl ?_
  refine zv_isub X dJ16_initWords_3 ?_
  refine zv_ciR ((zr_S X (As := [.int (x1 - 1)]) (rest := [va_rf (some this)]) (wk_J16_wordIndex l h) (va_cwS 1 X.hts (lw_S q573 q574 q126 q575) rfl rfl rfl md_J16_wordIndex ⟨Nat.le_of_ble_eq_true rfl, Nat.le_of_ble_eq_true rfl⟩) rfl rfl (zk_rs (Nat.le_of_ble_eq_true rfl)) dJ16_initWords_4 ⟨by first | exact Nat.le_of_ble_eq_true rfl | omega | (dsimp only; omega), by first | exact Nat.le_of_ble_eq_true rfl | omega | (dsimp only; omega)⟩)) (fun v4 h => ?_)
  refine zv_iconst X (v := 1) dJ16_initWords_7 rfl ?_
  refine zv_iadd X dJ16_initWords_8 ?_
  refine zv_newa X (ty := .long) rfl (by decide) (fun _ h => h) (fun _ => rfl) q586 (by decide) (by first | exact Nat.le_of_ble_eq_true rfl | omega | (dsimp only; omega)) (by first | exact Nat.le_of_ble_eq_true rfl | omega | (dsimp only; omega)) dJ16_initWords_9 h (fun v9 P9 h => ?_)
  refine zv_put_r X fp_q576 (zk_tyA _) (fun z => by cases z) dJ16_initWords_11 h (fun P11 h => ?_)
  exact zv_vret X rfl (by first | exact Nat.le_of_ble_eq_true rfl | omega | (dsimp only; omega)) (by first | exact Nat.le_of_ble_eq_true rfl | omega | (dsimp only; omega)) dJ16_initWords_14 h
theorem md_J16_init : yJ16_init.cls ≠ "java/lang/invoke/MethodHandle" ∧ yJ16_init.cls ≠ "java/lang/invoke/VarHandle" ∧ (parseMethodDescriptor yJ16_init.desc).map (fun d => d.parameters.length) = some 0 := by decide +kernel
theorem wk_J16_init (l : Launch) {D : zk_G} {g : zk_M} {b0 : Nat} {post : zk_H → Prop} {this : Nat} {P : zk_H} (hh : wp_J16_init post this P) : Met l yJ16_init (ws_ yJ16_init cJ16_init 1 none) ({ frames := 2, cells := 1, slots := 1, locals := 41 } : Room) (va_Pc [.ref this] (zk_pre D g b0 P)) (va_Qv post (zk_B D b0) (zk_A b0)) 1 1 (zk_A b0) := by
  refine zk_enter "java/util/BitSet" "<init>" rfl rfl (plainFor_of_name (by decide)) [.ref this] (Nat.le_of_ble_eq_true rfl) ?_
  intro p e s m args below meth c X
  refine zk_at0 (L' := [(0, va_rf (some this))]) (rfl) ?_
  have h := hh
  unfold wp_J16_init at h
  refine zv_aload_n X 0 dJ16_init_0 rfl ?_
  refine zv_objInit X q568 dJ16_init_1 (by decide) (by decide) (by decide) ?_
  refine zv_aload_n X 0 dJ16_init_4 rfl ?_
  refine zv_iconst X (v := 0) dJ16_init_5 rfl ?_
  refine zv_put_i X fp_q577 (fun z => by cases z) dJ16_init_6 h (fun P6 h => ?_)
  refine zv_aload_n X 0 dJ16_init_9 rfl ?_
  refine zv_iconst X (v := 0) dJ16_init_10 rfl ?_
  refine zv_put_n X fp_q578 (fun z => by cases z) dJ16_init_11 h (fun P11 h => ?_)
  refine zv_aload_n X 0 dJ16_init_14 rfl ?_
  refine zv_bipush X (v := 64) dJ16_init_15 rfl ?_
  refine zv_cv ((zr_Vl X (As := [.int (64)]) (rest := []) h (fun a h => wk_J16_initWords l h) (zk_l1 ⟨_, rfl, cwV 1 X.hts (lw_V q569 q571 qs4 q126 q572) rfl rfl rfl ⟨rfl, md_J16_initWords⟩ ⟨Nat.le_of_ble_eq_true rfl, Nat.le_of_ble_eq_true rfl⟩⟩) rfl rfl (zk_rs (Nat.le_of_ble_eq_true rfl)) dJ16_init_17 ⟨by first | exact Nat.le_of_ble_eq_true rfl | omega | (dsimp only; omega), by first | exact Nat.le_of_ble_eq_true rfl | omega | (dsimp only; omega)⟩)) (fun P17 h => ?_)
  refine zv_aload_n X 0 dJ16_init_20 rfl ?_
  refine zv_iconst X (v := 0) dJ16_init_21 rfl ?_
  refine zv_put_n X fp_q578 (fun z => by cases z) dJ16_init_22 h (fun P22 h => ?_)
  exact zv_vret X rfl (by first | exact Nat.le_of_ble_eq_true rfl | omega | (dsimp only; omega)) (by first | exact Nat.le_of_ble_eq_true rfl | omega | (dsimp only; omega)) dJ16_init_25 h
theorem kj_J16_checkInvariants_70 {p : Program} {l : Launch} {e : Env} {s : State} {m : MethodId} {args : Array Value} {below : List Frame} {meth : Method} {c : Code} {D : zk_G} {g : zk_M} {b0 : Nat} (X : zk_X p s m args meth c D g b0 cJ16_checkInvariants 1 "java/util/BitSet" "checkInvariants" none) {post : Prop}  {a0 : Option Nat} {P : zk_H}    (hh : wj_J16_checkInvariants_70 post a0 P) : zV p l e ({ frames := 0, cells := 0, slots := 0, locals := 0 } : Room) s m args below meth c D b0 1 (0) (0) (MQ below (va_Qv (fun u => post ∧ u = P) (zk_B D b0) (zk_A b0)) args s 0 0 (zk_A b0)) P 70 [(0, va_rf (a0))] [] := by
  have h := hh
  unfold wj_J16_checkInvariants_70 at h
  refine zv_gets X (i := 0) rfl q670 rfl dJ16_checkInvariants_70 ?_
  refine zv_if_ne X (tgt := 110) dJ16_checkInvariants_73 (by decide) h (fun h => ?_) (fun h => ?_)
  · exact zv_vret X rfl (by first | exact Nat.le_of_ble_eq_true rfl | omega | (dsimp only; omega)) (by first | exact Nat.le_of_ble_eq_true rfl | omega | (dsimp only; omega)) dJ16_checkInvariants_110 ⟨h, rfl⟩
  · refine zv_aload_n X 0 dJ16_checkInvariants_76 rfl ?_
    refine zv_getf_i X fo_q577 dJ16_checkInvariants_77 h (fun v77 h => ?_)
    refine zv_aload_n X 0 dJ16_checkInvariants_80 rfl ?_
    refine zv_getf_r X fo_q576 dJ16_checkInvariants_81 h (fun v81 h => ?_)
    refine zv_alen X dJ16_checkInvariants_84 h (fun v84 h => ?_)
    refine zv_icmp_eq X (tgt := 110) dJ16_checkInvariants_85 (by decide) h (fun h => ?_) (fun h => ?_)
    · exact zv_vret X rfl (by first | exact Nat.le_of_ble_eq_true rfl | omega | (dsimp only; omega)) (by first | exact Nat.le_of_ble_eq_true rfl | omega | (dsimp only; omega)) dJ16_checkInvariants_110 ⟨h, rfl⟩
    · refine zv_aload_n X 0 dJ16_checkInvariants_88 rfl ?_
      refine zv_getf_r X fo_q576 dJ16_checkInvariants_89 h (fun v89 h => ?_)
      refine zv_aload_n X 0 dJ16_checkInvariants_92 rfl ?_
      refine zv_getf_i X fo_q577 dJ16_checkInvariants_93 h (fun v93 h => ?_)
      refine zv_lald X dJ16_checkInvariants_96 h (fun v96 h => ?_)
      refine zv_lconst X (v := 0) dJ16_checkInvariants_97 rfl ?_
      refine zv_lcmp X dJ16_checkInvariants_98 ?_
      refine zv_if_eq X (tgt := 110) dJ16_checkInvariants_99 (by decide) h (fun h => ?_) (fun h => ?_)
      · exact zv_vret X rfl (by first | exact Nat.le_of_ble_eq_true rfl | omega | (dsimp only; omega)) (by first | exact Nat.le_of_ble_eq_true rfl | omega | (dsimp only; omega)) dJ16_checkInvariants_110 ⟨h, rfl⟩
      · exact h.elim
theorem kj_J16_checkInvariants_37 {p : Program} {l : Launch} {e : Env} {s : State} {m : MethodId} {args : Array Value} {below : List Frame} {meth : Method} {c : Code} {D : zk_G} {g : zk_M} {b0 : Nat} (X : zk_X p s m args meth c D g b0 cJ16_checkInvariants 1 "java/util/BitSet" "checkInvariants" none) {post : Prop}  {a0 : Option Nat} {P : zk_H}    (hh : wj_J16_checkInvariants_37 post a0 P) : zV p l e ({ frames := 0, cells := 0, slots := 0, locals := 0 } : Room) s m args below meth c D b0 1 (0) (0) (MQ below (va_Qv (fun u => post ∧ u = P) (zk_B D b0) (zk_A b0)) args s 0 0 (zk_A b0)) P 37 [(0, va_rf (a0))] [] := by
  have h := hh
  unfold wj_J16_checkInvariants_37 at h
  refine zv_gets X (i := 0) rfl q670 rfl dJ16_checkInvariants_37 ?_
  refine zv_if_ne X (tgt := 70) dJ16_checkInvariants_40 (by decide) h (fun h => ?_) (fun h => ?_)
  · exact kj_J16_checkInvariants_70 X  h
  · refine zv_aload_n X 0 dJ16_checkInvariants_43 rfl ?_
    refine zv_getf_i X fo_q577 dJ16_checkInvariants_44 h (fun v44 h => ?_)
    refine zv_if_lt X (tgt := 62) dJ16_checkInvariants_47 (by decide) h (fun h => ?_) (fun h => ?_)
    · exact h.elim
    · refine zv_aload_n X 0 dJ16_checkInvariants_50 rfl ?_
      refine zv_getf_i X fo_q577 dJ16_checkInvariants_51 h (fun v51 h => ?_)
      refine zv_aload_n X 0 dJ16_checkInvariants_54 rfl ?_
      refine zv_getf_r X fo_q576 dJ16_checkInvariants_55 h (fun v55 h => ?_)
      refine zv_alen X dJ16_checkInvariants_58 h (fun v58 h => ?_)
      refine zv_icmp_le X (tgt := 70) dJ16_checkInvariants_59 (by decide) h (fun h => ?_) (fun h => ?_)
      · exact kj_J16_checkInvariants_70 X  h
      · exact h.elim
theorem md_J16_checkInvariants : yJ16_checkInvariants.cls ≠ "java/lang/invoke/MethodHandle" ∧ yJ16_checkInvariants.cls ≠ "java/lang/invoke/VarHandle" ∧ (parseMethodDescriptor yJ16_checkInvariants.desc).map (fun d => d.parameters.length) = some 0 := by decide +kernel
theorem wk_J16_checkInvariants (l : Launch) {D : zk_G} {g : zk_M} {b0 : Nat} {post : Prop} {this : Nat} {P : zk_H} (hh : wp_J16_checkInvariants post this P) : Met l yJ16_checkInvariants (ws_ yJ16_checkInvariants cJ16_checkInvariants 1 none) ({ frames := 0, cells := 0, slots := 0, locals := 0 } : Room) (va_Pc [.ref this] (zk_pre D g b0 P)) (va_Qv (fun u => post ∧ u = P) (zk_B D b0) (zk_A b0)) 0 0 (zk_A b0) := by
  refine zk_enter "java/util/BitSet" "checkInvariants" rfl rfl (plainFor_of_name (by decide)) [.ref this] (Nat.le_of_ble_eq_true rfl) ?_
  intro p e s m args below meth c X
  refine zk_at0 (L' := [(0, va_rf (some this))]) (rfl) ?_
  have h := hh
  unfold wp_J16_checkInvariants at h
  refine zv_gets X (i := 0) rfl q670 rfl dJ16_checkInvariants_0 ?_
  refine zv_if_ne X (tgt := 37) dJ16_checkInvariants_3 (by decide) h (fun h => ?_) (fun h => ?_)
  · exact kj_J16_checkInvariants_37 X  h
  · refine zv_aload_n X 0 dJ16_checkInvariants_6 rfl ?_
    refine zv_getf_i X fo_q577 dJ16_checkInvariants_7 h (fun v7 h => ?_)
    refine zv_if_eq X (tgt := 37) dJ16_checkInvariants_10 (by decide) h (fun h => ?_) (fun h => ?_)
    · exact kj_J16_checkInvariants_37 X  h
    · refine zv_aload_n X 0 dJ16_checkInvariants_13 rfl ?_
      refine zv_getf_r X fo_q576 dJ16_checkInvariants_14 h (fun v14 h => ?_)
      refine zv_aload_n X 0 dJ16_checkInvariants_17 rfl ?_
      refine zv_getf_i X fo_q577 dJ16_checkInvariants_18 h (fun v18 h => ?_)
      refine zv_iconst X (v := 1) dJ16_checkInvariants_21 rfl ?_
      refine zv_isub X dJ16_checkInvariants_22 ?_
      refine zv_lald X dJ16_checkInvariants_23 h (fun v23 h => ?_)
      refine zv_lconst X (v := 0) dJ16_checkInvariants_24 rfl ?_
      refine zv_lcmp X dJ16_checkInvariants_25 ?_
      refine zv_if_ne X (tgt := 37) dJ16_checkInvariants_26 (by decide) h (fun h => ?_) (fun h => ?_)
      · exact kj_J16_checkInvariants_37 X  h
      · exact h.elim
theorem kj_J16_or_100 {p : Program} {l : Launch} {e : Env} {s : State} {m : MethodId} {args : Array Value} {below : List Frame} {meth : Method} {c : Code} {D : zk_G} {g : zk_M} {b0 : Nat} (X : zk_X p s m args meth c D g b0 cJ16_or 4 "java/util/BitSet" "or" none) {post : zk_H → Prop}  {a0 : Option Nat} {P : zk_H}    (hh : wj_J16_or_100 post a0 P) : zV p l e ({ frames := 1, cells := 0, slots := 0, locals := 40 } : Room) s m args below meth c D b0 4 (0) (0) (MQ below (va_Qv post (zk_B D b0) (zk_A b0)) args s 0 0 (zk_A b0)) P 100 [(0, va_rf (a0))] [] := by
  have h := hh
  unfold wj_J16_or_100 at h
  refine zv_aload_n X 0 dJ16_or_100 rfl ?_
  refine zv_cvR ((zr_Vl X (As := []) (rest := []) h (fun a h => wk_J16_checkInvariants l h) (zk_l1 ⟨_, rfl, cwV 0 X.hts (lw_V q666 q668 qs6 q126 q669) rfl rfl rfl ⟨rfl, md_J16_checkInvariants⟩ ⟨Nat.le_of_ble_eq_true rfl, Nat.le_of_ble_eq_true rfl⟩⟩) rfl rfl (zk_rs (Nat.le_of_ble_eq_true rfl)) dJ16_or_101 ⟨by first | exact Nat.le_of_ble_eq_true rfl | omega | (dsimp only; omega), by first | exact Nat.le_of_ble_eq_true rfl | omega | (dsimp only; omega)⟩)) (fun h => ?_)
  exact zv_vret X rfl (by first | exact Nat.le_of_ble_eq_true rfl | omega | (dsimp only; omega)) (by first | exact Nat.le_of_ble_eq_true rfl | omega | (dsimp only; omega)) dJ16_or_104 h
theorem kb_J16_or_47 {p : Program} {l : Launch} {e : Env} {s : State} {m : MethodId} {args : Array Value} {below : List Frame} {meth : Method} {c : Code} {D : zk_G} {g : zk_M} {b0 : Nat} (X : zk_X p s m args meth c D g b0 cJ16_or 4 "java/util/BitSet" "or" none) {post : zk_H → Prop}  {K47 : Int32 → zk_H → Prop} {a0 : Option Nat} {a1 : Option Nat} {a2 : Int32} {a3 : Int32} {P : zk_H}   (hK47 : ∀ (u3 : Int32) (U : zk_H), K47 u3 U → zV p l e ({ frames := 1, cells := 0, slots := 0, locals := 40 } : Room) s m args below meth c D b0 4 (0) (0) (MQ below (va_Qv post (zk_B D b0) (zk_A b0)) args s 0 0 (zk_A b0)) U 47 [(0, va_rf (a0)), (1, va_rf (a1)), (2, .int (a2)), (3, .int (u3))] [])  (hh : wb_J16_or_47 post a0 a1 a2 K47 a3 P) : zV p l e ({ frames := 1, cells := 0, slots := 0, locals := 40 } : Room) s m args below meth c D b0 4 (0) (0) (MQ below (va_Qv post (zk_B D b0) (zk_A b0)) args s 0 0 (zk_A b0)) P 47 [(0, va_rf (a0)), (1, va_rf (a1)), (2, .int (a2)), (3, .int (a3))] [] := by
  have h := hh
  unfold wb_J16_or_47 at h
  refine zv_iload_n X 3 dJ16_or_47 rfl ?_
  refine zv_iload_n X 2 dJ16_or_48 rfl ?_
  refine zv_icmp_ge X (tgt := 73) dJ16_or_49 (by decide) h (fun h => ?_) (fun h => ?_)
  · refine zv_iload_n X 2 dJ16_or_73 rfl ?_
    refine zv_aload_n X 1 dJ16_or_74 rfl ?_
    refine zv_getf_i X fo_q577 dJ16_or_75 h (fun v75 h => ?_)
    refine zv_icmp_ge X (tgt := 100) dJ16_or_78 (by decide) h (fun h => ?_) (fun h => ?_)
    · refine zv_sub (L' := [(0, va_rf (a0))]) [0] rfl ?_
      exact kj_J16_or_100 X  h
    · refine zv_aload_n X 1 dJ16_or_81 rfl ?_
      refine zv_getf_r X fo_q576 dJ16_or_82 h (fun v82 h => ?_)
      refine zv_iload_n X 2 dJ16_or_85 rfl ?_
      refine zv_aload_n X 0 dJ16_or_86 rfl ?_
      refine zv_getf_r X fo_q576 dJ16_or_87 h (fun v87 h => ?_)
      refine zv_iload_n X 2 dJ16_or_90 rfl ?_
      refine zv_aload_n X 0 dJ16_or_91 rfl ?_
      refine zv_getf_i X fo_q577 dJ16_or_92 h (fun v92 h => ?_)
      refine zv_iload_n X 2 dJ16_or_95 rfl ?_
      refine zv_isub X dJ16_or_96 ?_
      refine zv_copyB X q665 ⟨by first | decide | (dsimp only; decide), by first | decide | (dsimp only; decide)⟩ (zk_rs (Nat.le_of_ble_eq_true rfl)) dJ16_or_97 h (fun P97 h => ?_)
      refine zv_sub (L' := [(0, va_rf (a0))]) [0] rfl ?_
      exact kj_J16_or_100 X  h
  · refine zv_aload_n X 0 dJ16_or_52 rfl ?_
    refine zv_getf_r X fo_q576 dJ16_or_53 h (fun v53 h => ?_)
    refine zv_iload_n X 3 dJ16_or_56 rfl ?_
    refine zv_dup2 X dJ16_or_57 rfl (zk_rc _) ?_
    refine zv_lald X dJ16_or_58 h (fun v58 h => ?_)
    refine zv_aload_n X 1 dJ16_or_59 rfl ?_
    refine zv_getf_r X fo_q576 dJ16_or_60 h (fun v60 h => ?_)
    refine zv_iload_n X 3 dJ16_or_63 rfl ?_
    refine zv_lald X dJ16_or_64 h (fun v64 h => ?_)
    refine zv_lor X dJ16_or_65 ?_
    refine zv_last X dJ16_or_66 h (fun P66 h => ?_)
    obtain ⟨v67, e67, h⟩ := zt_e h
    refine zv_iinc X (v := v67) (L' := [(3, .int (v67)), (0, va_rf (a0)), (1, va_rf (a1)), (2, .int (a2))]) 3 dJ16_or_67 rfl e67 (by decide) rfl ?_
    refine zv_goto X (tgt := 47) dJ16_or_70 (by decide) ?_
    refine zv_sub (L' := [(0, va_rf (a0)), (1, va_rf (a1)), (2, .int (a2)), (3, .int (v67))]) [1, 2, 3, 0] rfl ?_
    exact hK47 _ _ h
theorem kl_J16_or_47 {p : Program} {l : Launch} {e : Env} {s : State} {m : MethodId} {args : Array Value} {below : List Frame} {meth : Method} {c : Code} {D : zk_G} {g : zk_M} {b0 : Nat} (X : zk_X p s m args meth c D g b0 cJ16_or 4 "java/util/BitSet" "or" none) {post : zk_H → Prop}  {a0 : Option Nat} {a1 : Option Nat} {a2 : Int32}   : ∀ (n : Nat) (a3 : Int32) (P : zk_H), wl_J16_or_47 post a0 a1 a2 n a3 P → zV p l e ({ frames := 1, cells := 0, slots := 0, locals := 40 } : Room) s m args below meth c D b0 4 (0) (0) (MQ below (va_Qv post (zk_B D b0) (zk_A b0)) args s 0 0 (zk_A b0)) P 47 [(0, va_rf (a0)), (1, va_rf (a1)), (2, .int (a2)), (3, .int (a3))] [] := by
  intro n
  induction n with
  | zero => intro _ _ h; exact h.elim
  | succ n ih =>
    intro a3 P h
    exact kb_J16_or_47 X  (fun u0 u1 h => ih _ _ h)  h
theorem md_J16_or : yJ16_or.cls ≠ "java/lang/invoke/MethodHandle" ∧ yJ16_or.cls ≠ "java/lang/invoke/VarHandle" ∧ (parseMethodDescriptor yJ16_or.desc).map (fun d => d.parameters.length) = some 1 := by decide +kernel
theorem wk_J16_or (l : Launch) {D : zk_G} {g : zk_M} {b0 : Nat} {post : zk_H → Prop} {this : Nat} {x1 : Option Nat} {P : zk_H} (hh : wp_J16_or post this x1 P) : Met l yJ16_or (ws_ yJ16_or cJ16_or 4 none) ({ frames := 1, cells := 0, slots := 0, locals := 40 } : Room) (va_Pc [.ref this, va_rf (x1)] (zk_pre D g b0 P)) (va_Qv post (zk_B D b0) (zk_A b0)) 0 0 (zk_A b0) := by
  refine zk_enter "java/util/BitSet" "or" rfl rfl (plainFor_of_name (by decide)) [.ref this, va_rf (x1)] (by cases x1 <;> exact Nat.le_of_ble_eq_true rfl) ?_
  intro p e s m args below meth c X
  refine zk_at0 (L' := [(0, va_rf (some this)), (1, va_rf (x1))]) (by cases x1 <;> rfl) ?_
  have h := hh
  unfold wp_J16_or at h
  refine zv_aload_n X 0 dJ16_or_0 rfl ?_
  refine zv_aload_n X 1 dJ16_or_1 rfl ?_
  refine zv_acmp_ne X (tgt := 6) dJ16_or_2 (by decide) h (fun h => ?_) (fun h => ?_)
  · refine zv_aload_n X 0 dJ16_or_6 rfl ?_
    refine zv_getf_i X fo_q577 dJ16_or_7 h (fun v7 h => ?_)
    refine zv_aload_n X 1 dJ16_or_10 rfl ?_
    refine zv_getf_i X fo_q577 dJ16_or_11 h (fun v11 h => ?_)
    refine zv_mmin X q649 ⟨by first | decide | (dsimp only; decide), by first | decide | (dsimp only; decide)⟩ (zk_rs (Nat.le_of_ble_eq_true rfl)) (by first | exact Nat.le_of_ble_eq_true rfl | dsimp only; omega) (by first | exact Nat.le_of_ble_eq_true rfl | dsimp only; omega) dJ16_or_14 ?_
    refine zv_top_i h (fun v17 h => ?_)
    refine zv_istore_n X (i := 2) (L' := [(2, .int (v17)), (0, va_rf (some this)), (1, va_rf (x1))]) dJ16_or_17 rfl (by decide) (by simp [zk_s1, zk_s2, zk_rc, zk_ic, zk_jc]) ?_
    refine zv_aload_n X 1 dJ16_or_18 rfl ?_
    refine zv_getf_i X fo_q577 dJ16_or_19 h (fun v19 h => ?_)
    refine zv_aload_n X 2 dJ16_or_22 rfl ?_
    refine zv_getf_i X fo_q577 dJ16_or_23 h (fun v23 h => ?_)
    refine zv_icmp_ge X (tgt := 45) dJ16_or_26 (by decide) h (fun h => ?_) (fun h => ?_)
    · refine zv_iconst X (v := 0) dJ16_or_45 rfl ?_
      refine zv_istore_n X (i := 3) (L' := [(3, .int (0)), (2, .int (v17)), (0, va_rf (some this)), (1, va_rf (x1))]) dJ16_or_46 rfl (by decide) rfl ?_
      refine zv_sub (L' := [(0, va_rf (some this)), (1, va_rf (x1)), (2, .int (v17)), (3, .int (0))]) [2, 3, 1, 0] rfl ?_
      obtain ⟨n46, h⟩ := h
      exact kl_J16_or_47 X  n46 _ _ h
    · refine zv_aload_n X 1 dJ16_or_29 rfl ?_
      refine zv_aload_n X 2 dJ16_or_30 rfl ?_
      refine zv_getf_i X fo_q577 dJ16_or_31 h (fun v31 h => ?_)
      exact h.elim
  · exact zv_vret X rfl (by first | exact Nat.le_of_ble_eq_true rfl | omega | (dsimp only; omega)) (by first | exact Nat.le_of_ble_eq_true rfl | omega | (dsimp only; omega)) dJ16_or_5 h
theorem md_J6_inc : yJ6_inc.cls ≠ "java/lang/invoke/MethodHandle" ∧ yJ6_inc.cls ≠ "java/lang/invoke/VarHandle" ∧ (parseMethodDescriptor yJ6_inc.desc).map (fun d => d.parameters.length) = some 2 := by decide +kernel
theorem wk_J6_inc (l : Launch) {D : zk_G} {g : zk_M} {b0 : Nat} {post : Int32 → Prop} {x0 : Int32} {x1 : Int32} {P : zk_H} (hh : wp_J6_inc post x0 x1) : Met l yJ6_inc (ws_ yJ6_inc cJ6_inc 2 (some Jvm.ClassFile.FieldType.int)) ({ frames := 0, cells := 0, slots := 0, locals := 0 } : Room) (va_Pc [.int (x0), .int (x1)] (zk_pre D g b0 P)) (va_Qi (fun r u => post r ∧ u = P) (zk_B D b0) (zk_A b0)) 0 0 (zk_A b0) := by
  refine zk_enter "java/util/ArrayDeque" "inc" rfl rfl (plainFor_of_name (by decide)) [.int (x0), .int (x1)] (Nat.le_of_ble_eq_true rfl) ?_
  intro p e s m args below meth c X
  refine zk_at0 (L' := [(0, .int (x0)), (1, .int (x1))]) (rfl) ?_
  have h := hh
  unfold wp_J6_inc at h
  obtain ⟨v0, e0, h⟩ := zt_e h
  refine zv_iinc X (v := v0) (L' := [(0, .int (v0)), (1, .int (x1))]) 0 dJ6_inc_0 rfl e0 (by decide) rfl ?_
  refine zv_iload_n X 0 dJ6_inc_3 rfl ?_
  refine zv_iload_n X 1 dJ6_inc_4 rfl ?_
  refine zv_icmp_lt X (tgt := 10) dJ6_inc_5 (by decide) h (fun h => ?_) (fun h => ?_)
  · refine zv_iload_n X 0 dJ6_inc_10 rfl ?_
    exact zv_iret X rfl (by first | exact Nat.le_of_ble_eq_true rfl | omega | (dsimp only; omega)) (by first | exact Nat.le_of_ble_eq_true rfl | omega | (dsimp only; omega)) dJ6_inc_11 ⟨h, rfl⟩
  · refine zv_iconst X (v := 0) dJ6_inc_8 rfl ?_
    refine zv_istore_n X (i := 0) (L' := [(0, .int (0)), (1, .int (x1))]) dJ6_inc_9 rfl (by decide) rfl ?_
    refine zv_iload_n X 0 dJ6_inc_10 rfl ?_
    exact zv_iret X rfl (by first | exact Nat.le_of_ble_eq_true rfl | omega | (dsimp only; omega)) (by first | exact Nat.le_of_ble_eq_true rfl | omega | (dsimp only; omega)) dJ6_inc_11 ⟨h, rfl⟩
theorem md_J6_addLast : yJ6_addLast.cls ≠ "java/lang/invoke/MethodHandle" ∧ yJ6_addLast.cls ≠ "java/lang/invoke/VarHandle" ∧ (parseMethodDescriptor yJ6_addLast.desc).map (fun d => d.parameters.length) = some 1 := by decide +kernel
theorem wk_J6_addLast (l : Launch) {D : zk_G} {g : zk_M} {b0 : Nat} {post : zk_H → Prop} {this : Nat} {x1 : Option Nat} {P : zk_H} (hh : wp_J6_addLast post this x1 P) : Met l yJ6_addLast (ws_ yJ6_addLast cJ6_addLast 3 none) ({ frames := 1, cells := 0, slots := 0, locals := 21 } : Room) (va_Pc [.ref this, va_rf (x1)] (zk_pre D g b0 P)) (va_Qv post (zk_B D b0) (zk_A b0)) 0 0 (zk_A b0) := by
  refine zk_enter "java/util/ArrayDeque" "addLast" rfl rfl (plainFor_of_name (by decide)) [.ref this, va_rf (x1)] (by cases x1 <;> exact Nat.le_of_ble_eq_true rfl) ?_
  intro p e s m args below meth c X
  refine zk_at0 (L' := [(0, va_rf (some this)), (1, va_rf (x1))]) (by cases x1 <;> rfl) ?_
  have h := hh
  unfold wp_J6_addLast at h
  refine zv_aload_n X 1 dJ6_addLast_0 rfl ?_
  refine zv_ifnonnull X (tgt := 12) dJ6_addLast_1 (by decide) h (fun h => ?_) (fun h => ?_)
  · refine zv_aload_n X 0 dJ6_addLast_12 rfl ?_
    refine zv_getf_r X fo_q391 dJ6_addLast_13 h (fun v13 h => ?_)
    refine zv_astore_n X (i := 2) (L' := [(2, va_rf (v13)), (0, va_rf (some this)), (1, va_rf (x1))]) dJ6_addLast_16 rfl (by decide) (by simp [zk_s1, zk_s2, zk_rc, zk_ic, zk_jc]) ?_
    refine zv_aload_n X 0 dJ6_addLast_17 rfl ?_
    refine zv_aload_n X 1 dJ6_addLast_18 rfl ?_
    refine zv_getf_i X fo_q393 dJ6_addLast_19 h (fun v19 h => ?_)
    refine zv_aload_n X 2 dJ6_addLast_22 rfl ?_
    refine zv_aast X zk_mayok dJ6_addLast_23 h (fun P23 h => ?_)
    refine zv_aload_n X 1 dJ6_addLast_24 rfl ?_
    refine zv_getf_i X fo_q392 dJ6_addLast_25 h (fun v25 h => ?_)
    refine zv_aload_n X 1 dJ6_addLast_28 rfl ?_
    refine zv_aload_n X 1 dJ6_addLast_29 rfl ?_
    refine zv_getf_i X fo_q393 dJ6_addLast_30 h (fun v30 h => ?_)
    refine zv_aload_n X 0 dJ6_addLast_33 rfl ?_
    refine zv_alen X dJ6_addLast_34 h (fun v34 h => ?_)
    refine zv_ciR ((zr_S X (As := [.int (v30), .int (v34)]) (rest := [va_rf (some this), .int (v25)]) (wk_J6_inc l h) (va_cwS 2 X.hts (lw_S q689 q690 q113 q691) rfl rfl rfl md_J6_inc ⟨Nat.le_of_ble_eq_true rfl, Nat.le_of_ble_eq_true rfl⟩) rfl rfl (zk_rs (Nat.le_of_ble_eq_true rfl)) dJ6_addLast_35 ⟨by first | exact Nat.le_of_ble_eq_true rfl | omega | (dsimp only; omega), by first | exact Nat.le_of_ble_eq_true rfl | omega | (dsimp only; omega)⟩)) (fun v35 h => ?_)
    refine zv_dup_x1 X dJ6_addLast_38 rfl (zk_rc _) ?_
    refine zv_put_i X fp_q393 (fun z => by cases z) dJ6_addLast_39 h (fun P39 h => ?_)
    refine zv_icmp_ne X (tgt := 50) dJ6_addLast_42 (by decide) h (fun h => ?_) (fun h => ?_)
    · exact zv_vret X rfl (by first | exact Nat.le_of_ble_eq_true rfl | omega | (dsimp only; omega)) (by first | exact Nat.le_of_ble_eq_true rfl | omega | (dsimp only; omega)) dJ6_addLast_50 h
    · refine zv_aload_n X 1 dJ6_addLast_45 rfl ?_
      refine zv_iconst X (v := 1) dJ6_addLast_46 rfl ?_
      exact h.elim
  · exact h.elim
theorem md_J6_pollFirst : yJ6_pollFirst.cls ≠ "java/lang/invoke/MethodHandle" ∧ yJ6_pollFirst.cls ≠ "java/lang/invoke/VarHandle" ∧ (parseMethodDescriptor yJ6_pollFirst.desc).map (fun d => d.parameters.length) = some 0 := by decide +kernel
theorem wk_J6_pollFirst (l : Launch) {D : zk_G} {g : zk_M} {b0 : Nat} {post : Option Nat → zk_H → Prop} {this : Nat} {P : zk_H} (hh : wp_J6_pollFirst post this P) : Met l yJ6_pollFirst (ws_ yJ6_pollFirst cJ6_pollFirst 4 (some (Jvm.ClassFile.FieldType.object "java/lang/Object"))) ({ frames := 1, cells := 0, slots := 0, locals := 21 } : Room) (va_Pc [.ref this] (zk_pre D g b0 P)) (va_Qq post (zk_B D b0) (zk_A b0)) 0 0 (zk_A b0) := by
  refine zk_enter "java/util/ArrayDeque" "pollFirst" rfl rfl (plainFor_of_name (by decide)) [.ref this] (Nat.le_of_ble_eq_true rfl) ?_
  intro p e s m args below meth c X
  refine zk_at0 (L' := [(0, va_rf (some this))]) (rfl) ?_
  have h := hh
  unfold wp_J6_pollFirst at h
  refine zv_aload_n X 0 dJ6_pollFirst_0 rfl ?_
  refine zv_getf_r X fo_q391 dJ6_pollFirst_1 h (fun v1 h => ?_)
  refine zv_dup X dJ6_pollFirst_4 (zk_rc _) ?_
  refine zv_astore_n X (i := 1) (L' := [(1, va_rf (v1)), (0, va_rf (some this))]) dJ6_pollFirst_5 rfl (by decide) rfl ?_
  refine zv_aload_n X 1 dJ6_pollFirst_6 rfl ?_
  refine zv_getf_i X fo_q392 dJ6_pollFirst_7 h (fun v7 h => ?_)
  refine zv_dup X dJ6_pollFirst_10 rfl ?_
  refine zv_istore_n X (i := 2) (L' := [(2, .int (v7)), (1, va_rf (v1)), (0, va_rf (some this))]) dJ6_pollFirst_11 rfl (by decide) (by simp [zk_s1, zk_s2, zk_rc, zk_ic, zk_jc]) ?_
  refine zv_cqR ((zr_S X (As := [va_rf (v1), .int (v7)]) (rest := []) (wk_J6_elementAt l h) (va_cwS 2 X.hts (lw_S q445 q446 q113 q447) rfl rfl rfl md_J6_elementAt ⟨Nat.le_of_ble_eq_true rfl, Nat.le_of_ble_eq_true rfl⟩) rfl rfl (zk_rs (Nat.le_of_ble_eq_true rfl)) dJ6_pollFirst_12 ⟨by first | exact Nat.le_of_ble_eq_true rfl | omega | (dsimp only; omega), by first | exact Nat.le_of_ble_eq_true rfl | omega | (dsimp only; omega)⟩)) (fun v12 h => ?_)
  refine zv_astore_n X (i := 3) (L' := [(3, va_rf (v12)), (2, .int (v7)), (1, va_rf (v1)), (0, va_rf (some this))]) dJ6_pollFirst_15 rfl (by decide) rfl ?_
  refine zv_aload_n X 0 dJ6_pollFirst_16 rfl ?_
  refine zv_ifnull X (tgt := 34) dJ6_pollFirst_17 (by decide) h (fun h => ?_) (fun h => ?_)
  · refine zv_aload_n X 0 dJ6_pollFirst_34 rfl ?_
    exact zv_aret X rfl (Or.inl ⟨_, rfl⟩) (by first | exact Nat.le_of_ble_eq_true rfl | omega | (dsimp only; omega)) (by first | exact Nat.le_of_ble_eq_true rfl | omega | (dsimp only; omega)) dJ6_pollFirst_35 h
  · refine zv_aload_n X 2 dJ6_pollFirst_20 rfl ?_
    refine zv_iload_n X 1 dJ6_pollFirst_21 rfl ?_
    refine zv_null X dJ6_pollFirst_22 ?_
    refine zv_aast X zk_mayok dJ6_pollFirst_23 h (fun P23 h => ?_)
    refine zv_aload_n X 3 dJ6_pollFirst_24 rfl ?_
    refine zv_iload_n X 1 dJ6_pollFirst_25 rfl ?_
    refine zv_aload_n X 2 dJ6_pollFirst_26 rfl ?_
    refine zv_alen X dJ6_pollFirst_27 h (fun v27 h => ?_)
    refine zv_ciR ((zr_S X (As := [.int (v7), .int (v27)]) (rest := [va_rf (some this)]) (wk_J6_inc l h) (va_cwS 2 X.hts (lw_S q689 q690 q113 q691) rfl rfl rfl md_J6_inc ⟨Nat.le_of_ble_eq_true rfl, Nat.le_of_ble_eq_true rfl⟩) rfl rfl (zk_rs (Nat.le_of_ble_eq_true rfl)) dJ6_pollFirst_28 ⟨by first | exact Nat.le_of_ble_eq_true rfl | omega | (dsimp only; omega), by first | exact Nat.le_of_ble_eq_true rfl | omega | (dsimp only; omega)⟩)) (fun v28 h => ?_)
    refine zv_put_i X fp_q392 (fun z => by cases z) dJ6_pollFirst_31 h (fun P31 h => ?_)
    refine zv_aload_n X 0 dJ6_pollFirst_34 rfl ?_
    exact zv_aret X rfl (Or.inl ⟨_, rfl⟩) (by first | exact Nat.le_of_ble_eq_true rfl | omega | (dsimp only; omega)) (by first | exact Nat.le_of_ble_eq_true rfl | omega | (dsimp only; omega)) dJ6_pollFirst_35 h
theorem md_J6_removeFirst : yJ6_removeFirst.cls ≠ "java/lang/invoke/MethodHandle" ∧ yJ6_removeFirst.cls ≠ "java/lang/invoke/VarHandle" ∧ (parseMethodDescriptor yJ6_removeFirst.desc).map (fun d => d.parameters.length) = some 0 := by decide +kernel
theorem wk_J6_removeFirst (l : Launch) {D : zk_G} {g : zk_M} {b0 : Nat} {post : Option Nat → zk_H → Prop} {this : Nat} {P : zk_H} (hh : wp_J6_removeFirst post this P) : Met l yJ6_removeFirst (ws_ yJ6_removeFirst cJ6_removeFirst 2 (some (Jvm.ClassFile.FieldType.object "java/lang/Object"))) ({ frames := 2, cells := 0, slots := 0, locals := 44 } : Room) (va_Pc [.ref this] (zk_pre D g b0 P)) (va_Qq post (zk_B D b0) (zk_A b0)) 0 0 (zk_A b0) := by
  refine zk_enter "java/util/ArrayDeque" "removeFirst" rfl rfl (plainFor_of_name (by decide)) [.ref this] (Nat.le_of_ble_eq_true rfl) ?_
  intro p e s m args below meth c X
  refine zk_at0 (L' := [(0, va_rf (some this))]) (rfl) ?_
  have h := hh
  unfold wp_J6_removeFirst at h
  refine zv_aload_n X 0 dJ6_removeFirst_0 rfl ?_
  refine zv_cq ((zr_Vl X (As := []) (rest := []) h (fun a h => wk_J6_pollFirst l h) (zk_l1 ⟨_, rfl, cwV 0 X.hts (lw_V q685 q686 q687 q113 q688) rfl rfl rfl ⟨rfl, md_J6_pollFirst⟩ ⟨Nat.le_of_ble_eq_true rfl, Nat.le_of_ble_eq_true rfl⟩⟩) rfl rfl (zk_rs (Nat.le_of_ble_eq_true rfl)) dJ6_removeFirst_1 ⟨by first | exact Nat.le_of_ble_eq_true rfl | omega | (dsimp only; omega), by first | exact Nat.le_of_ble_eq_true rfl | omega | (dsimp only; omega)⟩)) (fun v1 P1 h => ?_)
  refine zv_astore_n X (i := 1) (L' := [(1, va_rf (v1)), (0, va_rf (some this))]) dJ6_removeFirst_4 rfl (by decide) rfl ?_
  refine zv_aload_n X 0 dJ6_removeFirst_5 rfl ?_
  refine zv_ifnonnull X (tgt := 17) dJ6_removeFirst_6 (by decide) h (fun h => ?_) (fun h => ?_)
  · refine zv_aload_n X 0 dJ6_removeFirst_17 rfl ?_
    exact zv_aret X rfl (Or.inl ⟨_, rfl⟩) (by first | exact Nat.le_of_ble_eq_true rfl | omega | (dsimp only; omega)) (by first | exact Nat.le_of_ble_eq_true rfl | omega | (dsimp only; omega)) dJ6_removeFirst_18 h
  · exact h.elim
theorem md_J9_isLatin1 : yJ9_isLatin1.cls ≠ "java/lang/invoke/MethodHandle" ∧ yJ9_isLatin1.cls ≠ "java/lang/invoke/VarHandle" ∧ (parseMethodDescriptor yJ9_isLatin1.desc).map (fun d => d.parameters.length) = some 0 := by decide +kernel
theorem wk_J9_isLatin1 (l : Launch) {D : zk_G} {g : zk_M} {b0 : Nat} {post : Int32 → Prop} {this : Nat} {P : zk_H} (hh : wp_J9_isLatin1 post this P) : Met l yJ9_isLatin1 (ws_ yJ9_isLatin1 cJ9_isLatin1 1 (some Jvm.ClassFile.FieldType.boolean)) ({ frames := 0, cells := 0, slots := 0, locals := 0 } : Room) (va_Pc [.ref this] (zk_pre D g b0 P)) (va_Qi (fun r u => post r ∧ u = P) (zk_B D b0) (zk_A b0)) 0 0 (zk_A b0) := by
  refine zk_enter "java/lang/String" "isLatin1" rfl rfl (plainFor_of_name (by decide)) [.ref this] (Nat.le_of_ble_eq_true rfl) ?_
  intro p e s m args below meth c X
  refine zk_at0 (L' := [(0, va_rf (some this))]) (rfl) ?_
  have h := hh
  unfold wp_J9_isLatin1 at h
  refine zv_gets X (i := 1) rfl q893 rfl dJ9_isLatin1_0 ?_
  refine zv_if_eq X (tgt := 17) dJ9_isLatin1_3 (by decide) h (fun h => ?_) (fun h => ?_)
  · refine zv_iconst X (v := 0) dJ9_isLatin1_17 rfl ?_
    exact zv_zret X (ty := .boolean) rfl (by first | exact Nat.le_of_ble_eq_true rfl | omega | (dsimp only; omega)) (by first | exact Nat.le_of_ble_eq_true rfl | omega | (dsimp only; omega)) dJ9_isLatin1_18 ⟨rfl, ⟨h, rfl⟩⟩
  · refine zv_aload_n X 0 dJ9_isLatin1_6 rfl ?_
    refine zv_getf_i X fo_q908 dJ9_isLatin1_7 h (fun v7 h => ?_)
    refine zv_if_ne X (tgt := 17) dJ9_isLatin1_10 (by decide) h (fun h => ?_) (fun h => ?_)
    · refine zv_iconst X (v := 0) dJ9_isLatin1_17 rfl ?_
      exact zv_zret X (ty := .boolean) rfl (by first | exact Nat.le_of_ble_eq_true rfl | omega | (dsimp only; omega)) (by first | exact Nat.le_of_ble_eq_true rfl | omega | (dsimp only; omega)) dJ9_isLatin1_18 ⟨rfl, ⟨h, rfl⟩⟩
    · refine zv_iconst X (v := 1) dJ9_isLatin1_13 rfl ?_
      refine zv_goto X (tgt := 18) dJ9_isLatin1_14 (by decide) ?_
      exact zv_zret X (ty := .boolean) rfl (by first | exact Nat.le_of_ble_eq_true rfl | omega | (dsimp only; omega)) (by first | exact Nat.le_of_ble_eq_true rfl | omega | (dsimp only; omega)) dJ9_isLatin1_18 ⟨rfl, ⟨h, rfl⟩⟩
theorem kb_J3_hashCode_4_8 {p : Program} {l : Launch} {e : Env} {s : State} {m : MethodId} {args : Array Value} {below : List Frame} {meth : Method} {c : Code} {D : zk_G} {g : zk_M} {b0 : Nat} (X : zk_X p s m args meth c D g b0 cJ3_hashCode_4 6 "jdk/internal/util/ArraysSupport" "hashCode" (some Jvm.ClassFile.FieldType.int)) {post : Int32 → Prop}  {K8 : Int32 → Int32 → Prop} {a0 : Int32} {a1 : Option Nat} {a4 : Int32} {a5 : Int32} {P : zk_H}   (hK8 : ∀ (u0 : Int32) (u5 : Int32), K8 u0 u5 → zV p l e ({ frames := 0, cells := 0, slots := 0, locals := 0 } : Room) s m args below meth c D b0 6 (0) (0) (MQ below (va_Qi (fun r u => post r ∧ u = P) (zk_B D b0) (zk_A b0)) args s 0 0 (zk_A b0)) P 8 [(0, .int (u0)), (1, va_rf (a1)), (4, .int (a4)), (5, .int (u5))] [])  (hh : wb_J3_hashCode_4_8 post a1 a4 P K8 a0 a5) : zV p l e ({ frames := 0, cells := 0, slots := 0, locals := 0 } : Room) s m args below meth c D b0 6 (0) (0) (MQ below (va_Qi (fun r u => post r ∧ u = P) (zk_B D b0) (zk_A b0)) args s 0 0 (zk_A b0)) P 8 [(0, .int (a0)), (1, va_rf (a1)), (4, .int (a4)), (5, .int (a5))] [] := by
  have h := hh
  unfold wb_J3_hashCode_4_8 at h
  refine zv_iload X 3 dJ3_hashCode_4_8 rfl ?_
  refine zv_iload X 2 dJ3_hashCode_4_10 rfl ?_
  refine zv_icmp_ge X (tgt := 31) dJ3_hashCode_4_12 (by decide) h (fun h => ?_) (fun h => ?_)
  · refine zv_iload_n X 0 dJ3_hashCode_4_31 rfl ?_
    exact zv_iret X rfl (by first | exact Nat.le_of_ble_eq_true rfl | omega | (dsimp only; omega)) (by first | exact Nat.le_of_ble_eq_true rfl | omega | (dsimp only; omega)) dJ3_hashCode_4_32 ⟨h, rfl⟩
  · refine zv_bipush X (v := 31) dJ3_hashCode_4_15 rfl ?_
    refine zv_iload_n X 0 dJ3_hashCode_4_17 rfl ?_
    refine zv_imul X dJ3_hashCode_4_18 ?_
    refine zv_aload_n X 1 dJ3_hashCode_4_19 rfl ?_
    refine zv_iload X 3 dJ3_hashCode_4_20 rfl ?_
    refine zv_iald X dJ3_hashCode_4_22 h (fun v22 h => ?_)
    refine zv_iadd X dJ3_hashCode_4_23 ?_
    refine zv_top_i h (fun v24 h => ?_)
    refine zv_istore_n X (i := 0) (L' := [(0, .int (v24)), (1, va_rf (a1)), (4, .int (a4)), (5, .int (a5))]) dJ3_hashCode_4_24 rfl (by decide) rfl ?_
    obtain ⟨v25, e25, h⟩ := zt_e h
    refine zv_iinc X (v := v25) (L' := [(5, .int (v25)), (0, .int (v24)), (1, va_rf (a1)), (4, .int (a4))]) 3 dJ3_hashCode_4_25 rfl e25 (by decide) rfl ?_
    refine zv_goto X (tgt := 8) dJ3_hashCode_4_28 (by decide) ?_
    refine zv_sub (L' := [(0, .int (v24)), (1, va_rf (a1)), (4, .int (a4)), (5, .int (v25))]) [1, 2, 3, 0] rfl ?_
    exact hK8 _ _ h
theorem kl_J3_hashCode_4_8 {p : Program} {l : Launch} {e : Env} {s : State} {m : MethodId} {args : Array Value} {below : List Frame} {meth : Method} {c : Code} {D : zk_G} {g : zk_M} {b0 : Nat} (X : zk_X p s m args meth c D g b0 cJ3_hashCode_4 6 "jdk/internal/util/ArraysSupport" "hashCode" (some Jvm.ClassFile.FieldType.int)) {post : Int32 → Prop}  {a1 : Option Nat} {a4 : Int32} {P : zk_H}   : ∀ (n : Nat) (a0 : Int32) (a5 : Int32), wl_J3_hashCode_4_8 post a1 a4 P n a0 a5 → zV p l e ({ frames := 0, cells := 0, slots := 0, locals := 0 } : Room) s m args below meth c D b0 6 (0) (0) (MQ below (va_Qi (fun r u => post r ∧ u = P) (zk_B D b0) (zk_A b0)) args s 0 0 (zk_A b0)) P 8 [(0, .int (a0)), (1, va_rf (a1)), (4, .int (a4)), (5, .int (a5))] [] := by
  intro n
  induction n with
  | zero => intro _ _ h; exact h.elim
  | succ n ih =>
    intro a0 a5 h
    exact kb_J3_hashCode_4_8 X  (fun u0 u1 h => ih _ _ h)  h
theorem md_J3_hashCode_4 : yJ3_hashCode_4.cls ≠ "java/lang/invoke/MethodHandle" ∧ yJ3_hashCode_4.cls ≠ "java/lang/invoke/VarHandle" ∧ (parseMethodDescriptor yJ3_hashCode_4.desc).map (fun d => d.parameters.length) = some 4 := by decide +kernel
theorem wk_J3_hashCode_4 (l : Launch) {D : zk_G} {g : zk_M} {b0 : Nat} {post : Int32 → Prop} {x0 : Int32} {x1 : Option Nat} {x2 : Int32} {x3 : Int32} {P : zk_H} (hh : wp_J3_hashCode_4 post x0 x1 x2 x3 P) : Met l yJ3_hashCode_4 (ws_ yJ3_hashCode_4 cJ3_hashCode_4 6 (some Jvm.ClassFile.FieldType.int)) ({ frames := 0, cells := 0, slots := 0, locals := 0 } : Room) (va_Pc [.int (x0), va_rf (x1), .int (x2), .int (x3)] (zk_pre D g b0 P)) (va_Qi (fun r u => post r ∧ u = P) (zk_B D b0) (zk_A b0)) 0 0 (zk_A b0) := by
  refine zk_enter "jdk/internal/util/ArraysSupport" "hashCode" rfl rfl (plainFor_of_name (by decide)) [.int (x0), va_rf (x1), .int (x2), .int (x3)] (by cases x1 <;> exact Nat.le_of_ble_eq_true rfl) ?_
  intro p e s m args below meth c X
  refine zk_at0 (L' := [(0, .int (x0)), (1, va_rf (x1)), (2, .int (x2)), (3, .int (x3))]) (by cases x1 <;> rfl) ?_
  have h := hh
  unfold wp_J3_hashCode_4 at h
  refine zv_iload_n X 2 dJ3_hashCode_4_0 rfl ?_
  refine zv_iload_n X 3 dJ3_hashCode_4_1 rfl ?_
  refine zv_iadd X dJ3_hashCode_4_2 ?_
  refine zv_top_i h (fun v3 h => ?_)
  refine zv_istore X (L' := [(4, .int (v3)), (0, .int (x0)), (1, va_rf (x1)), (2, .int (x2)), (3, .int (x3))]) dJ3_hashCode_4_3 (by decide) rfl ?_
  refine zv_iload_n X 3 dJ3_hashCode_4_5 rfl ?_
  refine zv_istore X (L' := [(5, .int (x2)), (4, .int (v3)), (0, .int (x0)), (1, va_rf (x1)), (2, .int (x2)), (3, .int (x3))]) dJ3_hashCode_4_6 (by decide) rfl ?_
  refine zv_sub (L' := [(0, .int (x0)), (1, va_rf (x1)), (4, .int (v3)), (5, .int (x2))]) [2, 3, 1, 0] rfl ?_
  obtain ⟨n6, h⟩ := h
  exact kl_J3_hashCode_4_8 X  n6 _ _ h
theorem kb_J3_hashCode_2_8 {p : Program} {l : Launch} {e : Env} {s : State} {m : MethodId} {args : Array Value} {below : List Frame} {meth : Method} {c : Code} {D : zk_G} {g : zk_M} {b0 : Nat} (X : zk_X p s m args meth c D g b0 cJ3_hashCode_2 6 "jdk/internal/util/ArraysSupport" "hashCode" (some Jvm.ClassFile.FieldType.int)) {post : Int32 → Prop}  {K8 : Int32 → Int32 → Prop} {a0 : Int32} {a1 : Option Nat} {a4 : Int32} {a5 : Int32} {P : zk_H}   (hK8 : ∀ (u0 : Int32) (u5 : Int32), K8 u0 u5 → zV p l e ({ frames := 0, cells := 0, slots := 0, locals := 0 } : Room) s m args below meth c D b0 6 (0) (0) (MQ below (va_Qi (fun r u => post r ∧ u = P) (zk_B D b0) (zk_A b0)) args s 0 0 (zk_A b0)) P 8 [(0, .int (u0)), (1, va_rf (a1)), (4, .int (a4)), (5, .int (u5))] [])  (hh : wb_J3_hashCode_2_8 post a1 a4 P K8 a0 a5) : zV p l e ({ frames := 0, cells := 0, slots := 0, locals := 0 } : Room) s m args below meth c D b0 6 (0) (0) (MQ below (va_Qi (fun r u => post r ∧ u = P) (zk_B D b0) (zk_A b0)) args s 0 0 (zk_A b0)) P 8 [(0, .int (a0)), (1, va_rf (a1)), (4, .int (a4)), (5, .int (a5))] [] := by
  have h := hh
  unfold wb_J3_hashCode_2_8 at h
  refine zv_iload X 3 dJ3_hashCode_2_8 rfl ?_
  refine zv_iload X 2 dJ3_hashCode_2_10 rfl ?_
  refine zv_icmp_ge X (tgt := 31) dJ3_hashCode_2_12 (by decide) h (fun h => ?_) (fun h => ?_)
  · refine zv_iload_n X 0 dJ3_hashCode_2_31 rfl ?_
    exact zv_iret X rfl (by first | exact Nat.le_of_ble_eq_true rfl | omega | (dsimp only; omega)) (by first | exact Nat.le_of_ble_eq_true rfl | omega | (dsimp only; omega)) dJ3_hashCode_2_32 ⟨h, rfl⟩
  · refine zv_bipush X (v := 31) dJ3_hashCode_2_15 rfl ?_
    refine zv_iload_n X 0 dJ3_hashCode_2_17 rfl ?_
    refine zv_imul X dJ3_hashCode_2_18 ?_
    refine zv_aload_n X 1 dJ3_hashCode_2_19 rfl ?_
    refine zv_iload X 3 dJ3_hashCode_2_20 rfl ?_
    refine zv_bald X dJ3_hashCode_2_22 h (fun v22 h => ?_)
    refine zv_iadd X dJ3_hashCode_2_23 ?_
    refine zv_top_i h (fun v24 h => ?_)
    refine zv_istore_n X (i := 0) (L' := [(0, .int (v24)), (1, va_rf (a1)), (4, .int (a4)), (5, .int (a5))]) dJ3_hashCode_2_24 rfl (by decide) rfl ?_
    obtain ⟨v25, e25, h⟩ := zt_e h
    refine zv_iinc X (v := v25) (L' := [(5, .int (v25)), (0, .int (v24)), (1, va_rf (a1)), (4, .int (a4))]) 3 dJ3_hashCode_2_25 rfl e25 (by decide) rfl ?_
    refine zv_goto X (tgt := 8) dJ3_hashCode_2_28 (by decide) ?_
    refine zv_sub (L' := [(0, .int (v24)), (1, va_rf (a1)), (4, .int (a4)), (5, .int (v25))]) [1, 2, 3, 0] rfl ?_
    exact hK8 _ _ h
theorem kl_J3_hashCode_2_8 {p : Program} {l : Launch} {e : Env} {s : State} {m : MethodId} {args : Array Value} {below : List Frame} {meth : Method} {c : Code} {D : zk_G} {g : zk_M} {b0 : Nat} (X : zk_X p s m args meth c D g b0 cJ3_hashCode_2 6 "jdk/internal/util/ArraysSupport" "hashCode" (some Jvm.ClassFile.FieldType.int)) {post : Int32 → Prop}  {a1 : Option Nat} {a4 : Int32} {P : zk_H}   : ∀ (n : Nat) (a0 : Int32) (a5 : Int32), wl_J3_hashCode_2_8 post a1 a4 P n a0 a5 → zV p l e ({ frames := 0, cells := 0, slots := 0, locals := 0 } : Room) s m args below meth c D b0 6 (0) (0) (MQ below (va_Qi (fun r u => post r ∧ u = P) (zk_B D b0) (zk_A b0)) args s 0 0 (zk_A b0)) P 8 [(0, .int (a0)), (1, va_rf (a1)), (4, .int (a4)), (5, .int (a5))] [] := by
  intro n
  induction n with
  | zero => intro _ _ h; exact h.elim
  | succ n ih =>
    intro a0 a5 h
    exact kb_J3_hashCode_2_8 X  (fun u0 u1 h => ih _ _ h)  h
theorem md_J3_hashCode_2 : yJ3_hashCode_2.cls ≠ "java/lang/invoke/MethodHandle" ∧ yJ3_hashCode_2.cls ≠ "java/lang/invoke/VarHandle" ∧ (parseMethodDescriptor yJ3_hashCode_2.desc).map (fun d => d.parameters.length) = some 4 := by decide +kernel
theorem wk_J3_hashCode_2 (l : Launch) {D : zk_G} {g : zk_M} {b0 : Nat} {post : Int32 → Prop} {x0 : Int32} {x1 : Option Nat} {x2 : Int32} {x3 : Int32} {P : zk_H} (hh : wp_J3_hashCode_2 post x0 x1 x2 x3 P) : Met l yJ3_hashCode_2 (ws_ yJ3_hashCode_2 cJ3_hashCode_2 6 (some Jvm.ClassFile.FieldType.int)) ({ frames := 0, cells := 0, slots := 0, locals := 0 } : Room) (va_Pc [.int (x0), va_rf (x1), .int (x2), .int (x3)] (zk_pre D g b0 P)) (va_Qi (fun r u => post r ∧ u = P) (zk_B D b0) (zk_A b0)) 0 0 (zk_A b0) := by
  refine zk_enter "jdk/internal/util/ArraysSupport" "hashCode" rfl rfl (plainFor_of_name (by decide)) [.int (x0), va_rf (x1), .int (x2), .int (x3)] (by cases x1 <;> exact Nat.le_of_ble_eq_true rfl) ?_
  intro p e s m args below meth c X
  refine zk_at0 (L' := [(0, .int (x0)), (1, va_rf (x1)), (2, .int (x2)), (3, .int (x3))]) (by cases x1 <;> rfl) ?_
  have h := hh
  unfold wp_J3_hashCode_2 at h
  refine zv_iload_n X 2 dJ3_hashCode_2_0 rfl ?_
  refine zv_iload_n X 3 dJ3_hashCode_2_1 rfl ?_
  refine zv_iadd X dJ3_hashCode_2_2 ?_
  refine zv_top_i h (fun v3 h => ?_)
  refine zv_istore X (L' := [(4, .int (v3)), (0, .int (x0)), (1, va_rf (x1)), (2, .int (x2)), (3, .int (x3))]) dJ3_hashCode_2_3 (by decide) rfl ?_
  refine zv_iload_n X 3 dJ3_hashCode_2_5 rfl ?_
  refine zv_istore X (L' := [(5, .int (x2)), (4, .int (v3)), (0, .int (x0)), (1, va_rf (x1)), (2, .int (x2)), (3, .int (x3))]) dJ3_hashCode_2_6 (by decide) rfl ?_
  refine zv_sub (L' := [(0, .int (x0)), (1, va_rf (x1)), (4, .int (v3)), (5, .int (x2))]) [2, 3, 1, 0] rfl ?_
  obtain ⟨n6, h⟩ := h
  exact kl_J3_hashCode_2_8 X  n6 _ _ h
theorem kb_J3_signedHashCode_8 {p : Program} {l : Launch} {e : Env} {s : State} {m : MethodId} {args : Array Value} {below : List Frame} {meth : Method} {c : Code} {D : zk_G} {g : zk_M} {b0 : Nat} (X : zk_X p s m args meth c D g b0 cJ3_signedHashCode 6 "jdk/internal/util/ArraysSupport" "signedHashCode" (some Jvm.ClassFile.FieldType.int)) {post : Int32 → Prop}  {K8 : Int32 → Int32 → Prop} {a0 : Int32} {a1 : Option Nat} {a4 : Int32} {a5 : Int32} {P : zk_H}   (hK8 : ∀ (u0 : Int32) (u5 : Int32), K8 u0 u5 → zV p l e ({ frames := 0, cells := 0, slots := 0, locals := 0 } : Room) s m args below meth c D b0 6 (0) (0) (MQ below (va_Qi (fun r u => post r ∧ u = P) (zk_B D b0) (zk_A b0)) args s 0 0 (zk_A b0)) P 8 [(0, .int (u0)), (1, va_rf (a1)), (4, .int (a4)), (5, .int (u5))] [])  (hh : wb_J3_signedHashCode_8 post a1 a4 P K8 a0 a5) : zV p l e ({ frames := 0, cells := 0, slots := 0, locals := 0 } : Room) s m args below meth c D b0 6 (0) (0) (MQ below (va_Qi (fun r u => post r ∧ u = P) (zk_B D b0) (zk_A b0)) args s 0 0 (zk_A b0)) P 8 [(0, .int (a0)), (1, va_rf (a1)), (4, .int (a4)), (5, .int (a5))] [] := by
  have h := hh
  unfold wb_J3_signedHashCode_8 at h
  refine zv_iload X 3 dJ3_signedHashCode_8 rfl ?_
  refine zv_iload X 2 dJ3_signedHashCode_10 rfl ?_
  refine zv_icmp_ge X (tgt := 35) dJ3_signedHashCode_12 (by decide) h (fun h => ?_) (fun h => ?_)
  · refine zv_iload_n X 0 dJ3_signedHashCode_35 rfl ?_
    exact zv_iret X rfl (by first | exact Nat.le_of_ble_eq_true rfl | omega | (dsimp only; omega)) (by first | exact Nat.le_of_ble_eq_true rfl | omega | (dsimp only; omega)) dJ3_signedHashCode_36 ⟨h, rfl⟩
  · refine zv_bipush X (v := 31) dJ3_signedHashCode_15 rfl ?_
    refine zv_iload_n X 0 dJ3_signedHashCode_17 rfl ?_
    refine zv_imul X dJ3_signedHashCode_18 ?_
    refine zv_aload_n X 1 dJ3_signedHashCode_19 rfl ?_
    refine zv_iload X 3 dJ3_signedHashCode_20 rfl ?_
    refine zv_bald X dJ3_signedHashCode_22 h (fun v22 h => ?_)
    refine zv_sipush X (v := 255) dJ3_signedHashCode_23 rfl ?_
    refine zv_iand X dJ3_signedHashCode_26 ?_
    refine zv_iadd X dJ3_signedHashCode_27 ?_
    refine zv_top_i h (fun v28 h => ?_)
    refine zv_istore_n X (i := 0) (L' := [(0, .int (v28)), (1, va_rf (a1)), (4, .int (a4)), (5, .int (a5))]) dJ3_signedHashCode_28 rfl (by decide) rfl ?_
    obtain ⟨v29, e29, h⟩ := zt_e h
    refine zv_iinc X (v := v29) (L' := [(5, .int (v29)), (0, .int (v28)), (1, va_rf (a1)), (4, .int (a4))]) 3 dJ3_signedHashCode_29 rfl e29 (by decide) rfl ?_
    refine zv_goto X (tgt := 8) dJ3_signedHashCode_32 (by decide) ?_
    refine zv_sub (L' := [(0, .int (v28)), (1, va_rf (a1)), (4, .int (a4)), (5, .int (v29))]) [1, 2, 3, 0] rfl ?_
    exact hK8 _ _ h
theorem kl_J3_signedHashCode_8 {p : Program} {l : Launch} {e : Env} {s : State} {m : MethodId} {args : Array Value} {below : List Frame} {meth : Method} {c : Code} {D : zk_G} {g : zk_M} {b0 : Nat} (X : zk_X p s m args meth c D g b0 cJ3_signedHashCode 6 "jdk/internal/util/ArraysSupport" "signedHashCode" (some Jvm.ClassFile.FieldType.int)) {post : Int32 → Prop}  {a1 : Option Nat} {a4 : Int32} {P : zk_H}   : ∀ (n : Nat) (a0 : Int32) (a5 : Int32), wl_J3_signedHashCode_8 post a1 a4 P n a0 a5 → zV p l e ({ frames := 0, cells := 0, slots := 0, locals := 0 } : Room) s m args below meth c D b0 6 (0) (0) (MQ below (va_Qi (fun r u => post r ∧ u = P) (zk_B D b0) (zk_A b0)) args s 0 0 (zk_A b0)) P 8 [(0, .int (a0)), (1, va_rf (a1)), (4, .int (a4)), (5, .int (a5))] [] := by
  intro n
  induction n with
  | zero => intro _ _ h; exact h.elim
  | succ n ih =>
    intro a0 a5 h
    exact kb_J3_signedHashCode_8 X  (fun u0 u1 h => ih _ _ h)  h
theorem md_J3_signedHashCode : yJ3_signedHashCode.cls ≠ "java/lang/invoke/MethodHandle" ∧ yJ3_signedHashCode.cls ≠ "java/lang/invoke/VarHandle" ∧ (parseMethodDescriptor yJ3_signedHashCode.desc).map (fun d => d.parameters.length) = some 4 := by decide +kernel
theorem wk_J3_signedHashCode (l : Launch) {D : zk_G} {g : zk_M} {b0 : Nat} {post : Int32 → Prop} {x0 : Int32} {x1 : Option Nat} {x2 : Int32} {x3 : Int32} {P : zk_H} (hh : wp_J3_signedHashCode post x0 x1 x2 x3 P) : Met l yJ3_signedHashCode (ws_ yJ3_signedHashCode cJ3_signedHashCode 6 (some Jvm.ClassFile.FieldType.int)) ({ frames := 0, cells := 0, slots := 0, locals := 0 } : Room) (va_Pc [.int (x0), va_rf (x1), .int (x2), .int (x3)] (zk_pre D g b0 P)) (va_Qi (fun r u => post r ∧ u = P) (zk_B D b0) (zk_A b0)) 0 0 (zk_A b0) := by
  refine zk_enter "jdk/internal/util/ArraysSupport" "signedHashCode" rfl rfl (plainFor_of_name (by decide)) [.int (x0), va_rf (x1), .int (x2), .int (x3)] (by cases x1 <;> exact Nat.le_of_ble_eq_true rfl) ?_
  intro p e s m args below meth c X
  refine zk_at0 (L' := [(0, .int (x0)), (1, va_rf (x1)), (2, .int (x2)), (3, .int (x3))]) (by cases x1 <;> rfl) ?_
  have h := hh
  unfold wp_J3_signedHashCode at h
  refine zv_iload_n X 2 dJ3_signedHashCode_0 rfl ?_
  refine zv_iload_n X 3 dJ3_signedHashCode_1 rfl ?_
  refine zv_iadd X dJ3_signedHashCode_2 ?_
  refine zv_top_i h (fun v3 h => ?_)
  refine zv_istore X (L' := [(4, .int (v3)), (0, .int (x0)), (1, va_rf (x1)), (2, .int (x2)), (3, .int (x3))]) dJ3_signedHashCode_3 (by decide) rfl ?_
  refine zv_iload_n X 3 dJ3_signedHashCode_5 rfl ?_
  refine zv_istore X (L' := [(5, .int (x2)), (4, .int (v3)), (0, .int (x0)), (1, va_rf (x1)), (2, .int (x2)), (3, .int (x3))]) dJ3_signedHashCode_6 (by decide) rfl ?_
  refine zv_sub (L' := [(0, .int (x0)), (1, va_rf (x1)), (4, .int (v3)), (5, .int (x2))]) [2, 3, 1, 0] rfl ?_
  obtain ⟨n6, h⟩ := h
  exact kl_J3_signedHashCode_8 X  n6 _ _ h
theorem md_J3_vectorizedHashCode : yJ3_vectorizedHashCode.cls ≠ "java/lang/invoke/MethodHandle" ∧ yJ3_vectorizedHashCode.cls ≠ "java/lang/invoke/VarHandle" ∧ (parseMethodDescriptor yJ3_vectorizedHashCode.desc).map (fun d => d.parameters.length) = some 5 := by decide +kernel
theorem wk_J3_vectorizedHashCode (l : Launch) {D : zk_G} {g : zk_M} {b0 : Nat} {post : Int32 → Prop} {x0 : Option Nat} {x1 : Int32} {x2 : Int32} {x3 : Int32} {x4 : Int32} {P : zk_H} (hh : wp_J3_vectorizedHashCode post x0 x1 x2 x3 x4 P) : Met l yJ3_vectorizedHashCode (ws_ yJ3_vectorizedHashCode cJ3_vectorizedHashCode 5 (some Jvm.ClassFile.FieldType.int)) ({ frames := 1, cells := 0, slots := 0, locals := 25 } : Room) (va_Pc [va_rf (x0), .int (x1), .int (x2), .int (x3), .int (x4)] (zk_pre D g b0 P)) (va_Qi (fun r u => post r ∧ u = P) (zk_B D b0) (zk_A b0)) 0 0 (zk_A b0) := by
  refine zk_enter "jdk/internal/util/ArraysSupport" "vectorizedHashCode" rfl rfl (plainFor_of_name (by decide)) [va_rf (x0), .int (x1), .int (x2), .int (x3), .int (x4)] (by cases x0 <;> exact Nat.le_of_ble_eq_true rfl) ?_
  intro p e s m args below meth c X
  refine zk_at0 (L' := [(0, va_rf (x0)), (1, .int (x1)), (2, .int (x2)), (3, .int (x3)), (4, .int (x4))]) (by cases x0 <;> rfl) ?_
  have h := hh
  unfold wp_J3_vectorizedHashCode at h
  refine zv_iload X 4 dJ3_vectorizedHashCode_0 rfl ?_
  by_cases z2_0 : x4 = 4
  · have h := h.1 z2_0
    refine zv_tableIn X (off := 42) (tgt := 44) dJ3_vectorizedHashCode_2 (by rw [z2_0]; decide) (by rw [z2_0]; decide) (by rw [z2_0]; decide) (by decide) ?_
    refine zv_iload_n X 3 dJ3_vectorizedHashCode_44 rfl ?_
    refine zv_aload_n X 0 dJ3_vectorizedHashCode_45 rfl ?_
    refine zv_castA X (ty := .byte) (by decide +kernel) q937 dJ3_vectorizedHashCode_46 h (fun h => ?_)
    refine zv_iload_n X 1 dJ3_vectorizedHashCode_49 rfl ?_
    refine zv_iload_n X 2 dJ3_vectorizedHashCode_50 rfl ?_
    refine zv_ciR ((zr_S X (As := [.int (x3), va_rf (x0), .int (x1), .int (x2)]) (rest := []) (wk_J3_signedHashCode l h) (va_cwS 4 X.hts (lw_S q938 q939 q107 q940) rfl rfl rfl md_J3_signedHashCode ⟨Nat.le_of_ble_eq_true rfl, Nat.le_of_ble_eq_true rfl⟩) rfl rfl (zk_rs (Nat.le_of_ble_eq_true rfl)) dJ3_vectorizedHashCode_51 ⟨by first | exact Nat.le_of_ble_eq_true rfl | omega | (dsimp only; omega), by first | exact Nat.le_of_ble_eq_true rfl | omega | (dsimp only; omega)⟩)) (fun v51 h => ?_)
    refine zv_goto X (tgt := 157) dJ3_vectorizedHashCode_54 (by decide) ?_
    exact zv_iret X rfl (by first | exact Nat.le_of_ble_eq_true rfl | omega | (dsimp only; omega)) (by first | exact Nat.le_of_ble_eq_true rfl | omega | (dsimp only; omega)) dJ3_vectorizedHashCode_157 ⟨h, rfl⟩
  have h := h.2 z2_0
  by_cases z2_1 : x4 = 5
  · have h := h.1 z2_1
    refine zv_tableIn X (off := 55) (tgt := 57) dJ3_vectorizedHashCode_2 (by rw [z2_1]; decide) (by rw [z2_1]; decide) (by rw [z2_1]; decide) (by decide) ?_
    refine zv_aload_n X 0 dJ3_vectorizedHashCode_57 rfl ?_
    exact h.elim
  have h := h.2 z2_1
  by_cases z2_2 : x4 = 6
  · have h := h.1 z2_2
    refine zv_tableIn X (off := 127) (tgt := 129) dJ3_vectorizedHashCode_2 (by rw [z2_2]; decide) (by rw [z2_2]; decide) (by rw [z2_2]; decide) (by decide) ?_
    exact h.elim
  have h := h.2 z2_2
  by_cases z2_3 : x4 = 7
  · have h := h.1 z2_3
    refine zv_tableIn X (off := 127) (tgt := 129) dJ3_vectorizedHashCode_2 (by rw [z2_3]; decide) (by rw [z2_3]; decide) (by rw [z2_3]; decide) (by decide) ?_
    exact h.elim
  have h := h.2 z2_3
  by_cases z2_4 : x4 = 8
  · have h := h.1 z2_4
    refine zv_tableIn X (off := 88) (tgt := 90) dJ3_vectorizedHashCode_2 (by rw [z2_4]; decide) (by rw [z2_4]; decide) (by rw [z2_4]; decide) (by decide) ?_
    refine zv_iload_n X 3 dJ3_vectorizedHashCode_90 rfl ?_
    refine zv_aload_n X 0 dJ3_vectorizedHashCode_91 rfl ?_
    refine zv_castA X (ty := .byte) (by decide +kernel) q937 dJ3_vectorizedHashCode_92 h (fun h => ?_)
    refine zv_iload_n X 1 dJ3_vectorizedHashCode_95 rfl ?_
    refine zv_iload_n X 2 dJ3_vectorizedHashCode_96 rfl ?_
    refine zv_ciR ((zr_S X (As := [.int (x3), va_rf (x0), .int (x1), .int (x2)]) (rest := []) (wk_J3_hashCode_2 l h) (va_cwS 4 X.hts (lw_S q961 q962 q107 q963) rfl rfl rfl md_J3_hashCode_2 ⟨Nat.le_of_ble_eq_true rfl, Nat.le_of_ble_eq_true rfl⟩) rfl rfl (zk_rs (Nat.le_of_ble_eq_true rfl)) dJ3_vectorizedHashCode_97 ⟨by first | exact Nat.le_of_ble_eq_true rfl | omega | (dsimp only; omega), by first | exact Nat.le_of_ble_eq_true rfl | omega | (dsimp only; omega)⟩)) (fun v97 h => ?_)
    refine zv_goto X (tgt := 157) dJ3_vectorizedHashCode_100 (by decide) ?_
    exact zv_iret X rfl (by first | exact Nat.le_of_ble_eq_true rfl | omega | (dsimp only; omega)) (by first | exact Nat.le_of_ble_eq_true rfl | omega | (dsimp only; omega)) dJ3_vectorizedHashCode_157 ⟨h, rfl⟩
  have h := h.2 z2_4
  by_cases z2_5 : x4 = 9
  · have h := h.1 z2_5
    refine zv_tableIn X (off := 101) (tgt := 103) dJ3_vectorizedHashCode_2 (by rw [z2_5]; decide) (by rw [z2_5]; decide) (by rw [z2_5]; decide) (by decide) ?_
    refine zv_iload_n X 3 dJ3_vectorizedHashCode_103 rfl ?_
    refine zv_aload_n X 0 dJ3_vectorizedHashCode_104 rfl ?_
    exact h.elim
  have h := h.2 z2_5
  by_cases z2_6 : x4 = 10
  · have h := h.1 z2_6
    refine zv_tableIn X (off := 114) (tgt := 116) dJ3_vectorizedHashCode_2 (by rw [z2_6]; decide) (by rw [z2_6]; decide) (by rw [z2_6]; decide) (by decide) ?_
    refine zv_iload_n X 3 dJ3_vectorizedHashCode_116 rfl ?_
    refine zv_aload_n X 0 dJ3_vectorizedHashCode_117 rfl ?_
    refine zv_castA X (ty := .int) (by decide +kernel) q968 dJ3_vectorizedHashCode_118 h (fun h => ?_)
    refine zv_iload_n X 1 dJ3_vectorizedHashCode_121 rfl ?_
    refine zv_iload_n X 2 dJ3_vectorizedHashCode_122 rfl ?_
    refine zv_ciR ((zr_S X (As := [.int (x3), va_rf (x0), .int (x1), .int (x2)]) (rest := []) (wk_J3_hashCode_4 l h) (va_cwS 4 X.hts (lw_S q969 q970 q107 q971) rfl rfl rfl md_J3_hashCode_4 ⟨Nat.le_of_ble_eq_true rfl, Nat.le_of_ble_eq_true rfl⟩) rfl rfl (zk_rs (Nat.le_of_ble_eq_true rfl)) dJ3_vectorizedHashCode_123 ⟨by first | exact Nat.le_of_ble_eq_true rfl | omega | (dsimp only; omega), by first | exact Nat.le_of_ble_eq_true rfl | omega | (dsimp only; omega)⟩)) (fun v123 h => ?_)
    refine zv_goto X (tgt := 157) dJ3_vectorizedHashCode_126 (by decide) ?_
    exact zv_iret X rfl (by first | exact Nat.le_of_ble_eq_true rfl | omega | (dsimp only; omega)) (by first | exact Nat.le_of_ble_eq_true rfl | omega | (dsimp only; omega)) dJ3_vectorizedHashCode_157 ⟨h, rfl⟩
  have h := h.2 z2_6
  have z2_0 := zk_tn (n := 4) (by decide) z2_0
  have z2_1 := zk_tn (n := 5) (by decide) z2_1
  have z2_2 := zk_tn (n := 6) (by decide) z2_2
  have z2_3 := zk_tn (n := 7) (by decide) z2_3
  have z2_4 := zk_tn (n := 8) (by decide) z2_4
  have z2_5 := zk_tn (n := 9) (by decide) z2_5
  have z2_6 := zk_tn (n := 10) (by decide) z2_6
  refine zv_tableOut X (tgt := 129) dJ3_vectorizedHashCode_2 (by omega) (by decide) ?_
  exact h.elim
theorem md_J11_hashCode : yJ11_hashCode.cls ≠ "java/lang/invoke/MethodHandle" ∧ yJ11_hashCode.cls ≠ "java/lang/invoke/VarHandle" ∧ (parseMethodDescriptor yJ11_hashCode.desc).map (fun d => d.parameters.length) = some 1 := by decide +kernel
theorem wk_J11_hashCode (l : Launch) {D : zk_G} {g : zk_M} {b0 : Nat} {post : Int32 → Prop} {x0 : Option Nat} {P : zk_H} (hh : wp_J11_hashCode post x0 P) : Met l yJ11_hashCode (ws_ yJ11_hashCode cJ11_hashCode 1 (some Jvm.ClassFile.FieldType.int)) ({ frames := 2, cells := 0, slots := 0, locals := 49 } : Room) (va_Pc [va_rf (x0)] (zk_pre D g b0 P)) (va_Qi (fun r u => post r ∧ u = P) (zk_B D b0) (zk_A b0)) 0 0 (zk_A b0) := by
  refine zk_enter "java/lang/StringLatin1" "hashCode" rfl rfl (plainFor_of_name (by decide)) [va_rf (x0)] (by cases x0 <;> exact Nat.le_of_ble_eq_true rfl) ?_
  intro p e s m args below meth c X
  refine zk_at0 (L' := [(0, va_rf (x0))]) (by cases x0 <;> rfl) ?_
  have h := hh
  unfold wp_J11_hashCode at h
  refine zv_aload_n X 0 dJ11_hashCode_0 rfl ?_
  refine zv_alen X dJ11_hashCode_1 h (fun v1 h => ?_)
  by_cases z2_0 : v1 = 0
  · have h := h.1 z2_0
    refine zv_lookup X (off := 26) (tgt := 28) dJ11_hashCode_2 (by decide) (by rw [z2_0]; decide) (by decide) ?_
    refine zv_iconst X (v := 0) dJ11_hashCode_28 rfl ?_
    refine zv_goto X (tgt := 51) dJ11_hashCode_29 (by decide) ?_
    exact zv_iret X rfl (by first | exact Nat.le_of_ble_eq_true rfl | omega | (dsimp only; omega)) (by first | exact Nat.le_of_ble_eq_true rfl | omega | (dsimp only; omega)) dJ11_hashCode_51 ⟨h, rfl⟩
  have h := h.2 z2_0
  by_cases z2_1 : v1 = 1
  · have h := h.1 z2_1
    refine zv_lookup X (off := 30) (tgt := 32) dJ11_hashCode_2 (by decide) (by rw [z2_1]; decide) (by decide) ?_
    refine zv_aload_n X 0 dJ11_hashCode_32 rfl ?_
    refine zv_iconst X (v := 0) dJ11_hashCode_33 rfl ?_
    refine zv_bald X dJ11_hashCode_34 h (fun v34 h => ?_)
    refine zv_sipush X (v := 255) dJ11_hashCode_35 rfl ?_
    refine zv_iand X dJ11_hashCode_38 ?_
    refine zv_goto X (tgt := 51) dJ11_hashCode_39 (by decide) ?_
    exact zv_iret X rfl (by first | exact Nat.le_of_ble_eq_true rfl | omega | (dsimp only; omega)) (by first | exact Nat.le_of_ble_eq_true rfl | omega | (dsimp only; omega)) dJ11_hashCode_51 ⟨h, rfl⟩
  have h := h.2 z2_1
  have z2_0 := zk_tn (n := 0) (by decide) z2_0
  have z2_1 := zk_tn (n := 1) (by decide) z2_1
  refine zv_lookup X (off := 40) (tgt := 42) dJ11_hashCode_2 (by decide) (zk_look (by simp only [List.mem_cons, List.not_mem_nil, or_false, forall_eq_or_imp, forall_eq]; omega)) (by decide) ?_
  refine zv_aload_n X 0 dJ11_hashCode_42 rfl ?_
  refine zv_iconst X (v := 0) dJ11_hashCode_43 rfl ?_
  refine zv_aload_n X 0 dJ11_hashCode_44 rfl ?_
  refine zv_alen X dJ11_hashCode_45 h (fun v45 h => ?_)
  refine zv_iconst X (v := 0) dJ11_hashCode_46 rfl ?_
  refine zv_iconst X (v := 4) dJ11_hashCode_47 rfl ?_
  refine zv_ciR ((zr_S X (As := [va_rf (x0), .int (0), .int (v45), .int (0), .int (4)]) (rest := []) (wk_J3_vectorizedHashCode l h) (va_cwS 5 X.hts (lw_S q934 q935 q107 q936) rfl rfl rfl md_J3_vectorizedHashCode ⟨Nat.le_of_ble_eq_true rfl, Nat.le_of_ble_eq_true rfl⟩) rfl rfl (zk_rs (Nat.le_of_ble_eq_true rfl)) dJ11_hashCode_48 ⟨by first | exact Nat.le_of_ble_eq_true rfl | omega | (dsimp only; omega), by first | exact Nat.le_of_ble_eq_true rfl | omega | (dsimp only; omega)⟩)) (fun v48 h => ?_)
  exact zv_iret X rfl (by first | exact Nat.le_of_ble_eq_true rfl | omega | (dsimp only; omega)) (by first | exact Nat.le_of_ble_eq_true rfl | omega | (dsimp only; omega)) dJ11_hashCode_51 ⟨h, rfl⟩
theorem md_J9_hashCode : yJ9_hashCode.cls ≠ "java/lang/invoke/MethodHandle" ∧ yJ9_hashCode.cls ≠ "java/lang/invoke/VarHandle" ∧ (parseMethodDescriptor yJ9_hashCode.desc).map (fun d => d.parameters.length) = some 0 := by decide +kernel
theorem wk_J9_hashCode (l : Launch) {D : zk_G} {g : zk_M} {b0 : Nat} {post : Int32 → zk_H → Prop} {this : Nat} {P : zk_H} (hh : wp_J9_hashCode post this P) : Met l yJ9_hashCode (ws_ yJ9_hashCode cJ9_hashCode 2 (some Jvm.ClassFile.FieldType.int)) ({ frames := 3, cells := 0, slots := 0, locals := 69 } : Room) (va_Pc [.ref this] (zk_pre D g b0 P)) (va_Qi post (zk_B D b0) (zk_A b0)) 0 0 (zk_A b0) := by
  refine zk_enter "java/lang/String" "hashCode" rfl rfl (plainFor_of_name (by decide)) [.ref this] (Nat.le_of_ble_eq_true rfl) ?_
  intro p e s m args below meth c X
  refine zk_at0 (L' := [(0, va_rf (some this))]) (rfl) ?_
  have h := hh
  unfold wp_J9_hashCode at h
  refine zv_aload_n X 0 dJ9_hashCode_0 rfl ?_
  refine zv_getf_i X fo_q909 dJ9_hashCode_1 h (fun v1 h => ?_)
  refine zv_istore_n X (i := 1) (L' := [(1, .int (v1)), (0, va_rf (some this))]) dJ9_hashCode_4 rfl (by decide) rfl ?_
  refine zv_iload_n X 0 dJ9_hashCode_5 rfl ?_
  refine zv_if_ne X (tgt := 58) dJ9_hashCode_6 (by decide) h (fun h => ?_) (fun h => ?_)
  · refine zv_iload_n X 0 dJ9_hashCode_58 rfl ?_
    exact zv_iret X rfl (by first | exact Nat.le_of_ble_eq_true rfl | omega | (dsimp only; omega)) (by first | exact Nat.le_of_ble_eq_true rfl | omega | (dsimp only; omega)) dJ9_hashCode_59 h
  · refine zv_aload_n X 1 dJ9_hashCode_9 rfl ?_
    refine zv_getf_i X fo_q910 dJ9_hashCode_10 h (fun v10 h => ?_)
    refine zv_if_ne X (tgt := 58) dJ9_hashCode_13 (by decide) h (fun h => ?_) (fun h => ?_)
    · refine zv_iload_n X 0 dJ9_hashCode_58 rfl ?_
      exact zv_iret X rfl (by first | exact Nat.le_of_ble_eq_true rfl | omega | (dsimp only; omega)) (by first | exact Nat.le_of_ble_eq_true rfl | omega | (dsimp only; omega)) dJ9_hashCode_59 h
    · refine zv_aload_n X 1 dJ9_hashCode_16 rfl ?_
      refine zv_ciR ((zr_Vl X (As := []) (rest := []) h (fun a h => wk_J9_isLatin1 l h) (zk_l1 ⟨_, rfl, cwV 0 X.hts (lw_V q927 q928 q929 q118 q930) rfl rfl rfl ⟨rfl, md_J9_isLatin1⟩ ⟨Nat.le_of_ble_eq_true rfl, Nat.le_of_ble_eq_true rfl⟩⟩) rfl rfl (zk_rs (Nat.le_of_ble_eq_true rfl)) dJ9_hashCode_17 ⟨by first | exact Nat.le_of_ble_eq_true rfl | omega | (dsimp only; omega), by first | exact Nat.le_of_ble_eq_true rfl | omega | (dsimp only; omega)⟩)) (fun v17 h => ?_)
      refine zv_if_eq X (tgt := 33) dJ9_hashCode_20 (by decide) h (fun h => ?_) (fun h => ?_)
      · refine zv_aload_n X 1 dJ9_hashCode_33 rfl ?_
        refine zv_getf_r X fo_q907 dJ9_hashCode_34 h (fun v34 h => ?_)
        exact h.elim
      · refine zv_aload_n X 1 dJ9_hashCode_23 rfl ?_
        refine zv_getf_r X fo_q907 dJ9_hashCode_24 h (fun v24 h => ?_)
        refine zv_ciR ((zr_S X (As := [va_rf (v24)]) (rest := []) (wk_J11_hashCode l h) (va_cwS 1 X.hts (lw_S q931 q932 q120 q933) rfl rfl rfl md_J11_hashCode ⟨Nat.le_of_ble_eq_true rfl, Nat.le_of_ble_eq_true rfl⟩) rfl rfl (zk_rs (Nat.le_of_ble_eq_true rfl)) dJ9_hashCode_27 ⟨by first | exact Nat.le_of_ble_eq_true rfl | omega | (dsimp only; omega), by first | exact Nat.le_of_ble_eq_true rfl | omega | (dsimp only; omega)⟩)) (fun v27 h => ?_)
        refine zv_goto X (tgt := 40) dJ9_hashCode_30 (by decide) ?_
        refine zv_istore_n X (i := 1) (L' := [(1, .int (v27)), (0, va_rf (some this))]) dJ9_hashCode_40 rfl (by decide) rfl ?_
        refine zv_iload_n X 0 dJ9_hashCode_41 rfl ?_
        refine zv_if_ne X (tgt := 53) dJ9_hashCode_42 (by decide) h (fun h => ?_) (fun h => ?_)
        · refine zv_aload_n X 1 dJ9_hashCode_53 rfl ?_
          refine zv_iload_n X 0 dJ9_hashCode_54 rfl ?_
          refine zv_put_i X fp_q909 (fun z => by cases z) dJ9_hashCode_55 h (fun P55 h => ?_)
          refine zv_iload_n X 0 dJ9_hashCode_58 rfl ?_
          exact zv_iret X rfl (by first | exact Nat.le_of_ble_eq_true rfl | omega | (dsimp only; omega)) (by first | exact Nat.le_of_ble_eq_true rfl | omega | (dsimp only; omega)) dJ9_hashCode_59 h
        · refine zv_aload_n X 1 dJ9_hashCode_45 rfl ?_
          refine zv_iconst X (v := 1) dJ9_hashCode_46 rfl ?_
          refine zv_put_n X fp_q910 (fun z => by cases z) dJ9_hashCode_47 h (fun P47 h => ?_)
          refine zv_goto X (tgt := 58) dJ9_hashCode_50 (by decide) ?_
          refine zv_iload_n X 0 dJ9_hashCode_58 rfl ?_
          exact zv_iret X rfl (by first | exact Nat.le_of_ble_eq_true rfl | omega | (dsimp only; omega)) (by first | exact Nat.le_of_ble_eq_true rfl | omega | (dsimp only; omega)) dJ9_hashCode_59 h
theorem md_J9_coder : yJ9_coder.cls ≠ "java/lang/invoke/MethodHandle" ∧ yJ9_coder.cls ≠ "java/lang/invoke/VarHandle" ∧ (parseMethodDescriptor yJ9_coder.desc).map (fun d => d.parameters.length) = some 0 := by decide +kernel
theorem wk_J9_coder (l : Launch) {D : zk_G} {g : zk_M} {b0 : Nat} {post : Int32 → Prop} {this : Nat} {P : zk_H} (hh : wp_J9_coder post this P) : Met l yJ9_coder (ws_ yJ9_coder cJ9_coder 1 (some Jvm.ClassFile.FieldType.byte)) ({ frames := 0, cells := 0, slots := 0, locals := 0 } : Room) (va_Pc [.ref this] (zk_pre D g b0 P)) (va_Qi (fun r u => post r ∧ u = P) (zk_B D b0) (zk_A b0)) 0 0 (zk_A b0) := by
  refine zk_enter "java/lang/String" "coder" rfl rfl (plainFor_of_name (by decide)) [.ref this] (Nat.le_of_ble_eq_true rfl) ?_
  intro p e s m args below meth c X
  refine zk_at0 (L' := [(0, va_rf (some this))]) (rfl) ?_
  have h := hh
  unfold wp_J9_coder at h
  refine zv_gets X (i := 1) rfl q893 rfl dJ9_coder_0 ?_
  refine zv_if_eq X (tgt := 13) dJ9_coder_3 (by decide) h (fun h => ?_) (fun h => ?_)
  · refine zv_iconst X (v := 1) dJ9_coder_13 rfl ?_
    exact zv_zret X (ty := .byte) rfl (by first | exact Nat.le_of_ble_eq_true rfl | omega | (dsimp only; omega)) (by first | exact Nat.le_of_ble_eq_true rfl | omega | (dsimp only; omega)) dJ9_coder_14 ⟨rfl, ⟨h, rfl⟩⟩
  · refine zv_aload_n X 0 dJ9_coder_6 rfl ?_
    refine zv_getf_i X fo_q908 dJ9_coder_7 h (fun v7 h => ?_)
    refine zv_goto X (tgt := 14) dJ9_coder_10 (by decide) ?_
    obtain ⟨hb, h⟩ := h
    exact zv_zret X (ty := .byte) rfl (by first | exact Nat.le_of_ble_eq_true rfl | omega | (dsimp only; omega)) (by first | exact Nat.le_of_ble_eq_true rfl | omega | (dsimp only; omega)) dJ9_coder_14 ⟨hb, ⟨h, rfl⟩⟩
theorem md_J9_length : yJ9_length.cls ≠ "java/lang/invoke/MethodHandle" ∧ yJ9_length.cls ≠ "java/lang/invoke/VarHandle" ∧ (parseMethodDescriptor yJ9_length.desc).map (fun d => d.parameters.length) = some 0 := by decide +kernel
theorem wk_J9_length (l : Launch) {D : zk_G} {g : zk_M} {b0 : Nat} {post : Int32 → Prop} {this : Nat} {P : zk_H} (hh : wp_J9_length post this P) : Met l yJ9_length (ws_ yJ9_length cJ9_length 1 (some Jvm.ClassFile.FieldType.int)) ({ frames := 1, cells := 0, slots := 0, locals := 20 } : Room) (va_Pc [.ref this] (zk_pre D g b0 P)) (va_Qi (fun r u => post r ∧ u = P) (zk_B D b0) (zk_A b0)) 0 0 (zk_A b0) := by
  refine zk_enter "java/lang/String" "length" rfl rfl (plainFor_of_name (by decide)) [.ref this] (Nat.le_of_ble_eq_true rfl) ?_
  intro p e s m args below meth c X
  refine zk_at0 (L' := [(0, va_rf (some this))]) (rfl) ?_
  have h := hh
  unfold wp_J9_length at h
  refine zv_aload_n X 0 dJ9_length_0 rfl ?_
  refine zv_getf_r X fo_q907 dJ9_length_1 h (fun v1 h => ?_)
  refine zv_alen X dJ9_length_4 h (fun v4 h => ?_)
  refine zv_aload_n X 0 dJ9_length_5 rfl ?_
  refine zv_ciR ((zr_Vl X (As := []) (rest := [.int (v4)]) h (fun a h => wk_J9_coder l h) (zk_l1 ⟨_, rfl, cwV 0 X.hts (lw_V q997 q998 q999 q118 q1000) rfl rfl rfl ⟨rfl, md_J9_coder⟩ ⟨Nat.le_of_ble_eq_true rfl, Nat.le_of_ble_eq_true rfl⟩⟩) rfl rfl (zk_rs (Nat.le_of_ble_eq_true rfl)) dJ9_length_6 ⟨by first | exact Nat.le_of_ble_eq_true rfl | omega | (dsimp only; omega), by first | exact Nat.le_of_ble_eq_true rfl | omega | (dsimp only; omega)⟩)) (fun v6 h => ?_)
  refine zv_ishr X dJ9_length_9 ?_
  exact zv_iret X rfl (by first | exact Nat.le_of_ble_eq_true rfl | omega | (dsimp only; omega)) (by first | exact Nat.le_of_ble_eq_true rfl | omega | (dsimp only; omega)) dJ9_length_10 ⟨h, rfl⟩
theorem kb_J11_equals_9 {p : Program} {l : Launch} {e : Env} {s : State} {m : MethodId} {args : Array Value} {below : List Frame} {meth : Method} {c : Code} {D : zk_G} {g : zk_M} {b0 : Nat} (X : zk_X p s m args meth c D g b0 cJ11_equals 3 "java/lang/StringLatin1" "equals" (some Jvm.ClassFile.FieldType.boolean)) {post : Int32 → Prop}  {K9 : Int32 → Prop} {a0 : Option Nat} {a1 : Option Nat} {a2 : Int32} {P : zk_H}   (hK9 : ∀ (u2 : Int32), K9 u2 → zV p l e ({ frames := 0, cells := 0, slots := 0, locals := 0 } : Room) s m args below meth c D b0 3 (0) (0) (MQ below (va_Qi (fun r u => post r ∧ u = P) (zk_B D b0) (zk_A b0)) args s 0 0 (zk_A b0)) P 9 [(0, va_rf (a0)), (1, va_rf (a1)), (2, .int (u2))] [])  (hh : wb_J11_equals_9 post a0 a1 P K9 a2) : zV p l e ({ frames := 0, cells := 0, slots := 0, locals := 0 } : Room) s m args below meth c D b0 3 (0) (0) (MQ below (va_Qi (fun r u => post r ∧ u = P) (zk_B D b0) (zk_A b0)) args s 0 0 (zk_A b0)) P 9 [(0, va_rf (a0)), (1, va_rf (a1)), (2, .int (a2))] [] := by
  have h := hh
  unfold wb_J11_equals_9 at h
  refine zv_iload_n X 2 dJ11_equals_9 rfl ?_
  refine zv_aload_n X 0 dJ11_equals_10 rfl ?_
  refine zv_alen X dJ11_equals_11 h (fun v11 h => ?_)
  refine zv_icmp_ge X (tgt := 32) dJ11_equals_12 (by decide) h (fun h => ?_) (fun h => ?_)
  · refine zv_iconst X (v := 1) dJ11_equals_32 rfl ?_
    exact zv_zret X (ty := .boolean) rfl (by first | exact Nat.le_of_ble_eq_true rfl | omega | (dsimp only; omega)) (by first | exact Nat.le_of_ble_eq_true rfl | omega | (dsimp only; omega)) dJ11_equals_33 ⟨rfl, ⟨h, rfl⟩⟩
  · refine zv_aload_n X 0 dJ11_equals_15 rfl ?_
    refine zv_iload_n X 2 dJ11_equals_16 rfl ?_
    refine zv_bald X dJ11_equals_17 h (fun v17 h => ?_)
    refine zv_aload_n X 1 dJ11_equals_18 rfl ?_
    refine zv_iload_n X 2 dJ11_equals_19 rfl ?_
    refine zv_bald X dJ11_equals_20 h (fun v20 h => ?_)
    refine zv_icmp_eq X (tgt := 26) dJ11_equals_21 (by decide) h (fun h => ?_) (fun h => ?_)
    · obtain ⟨v26, e26, h⟩ := zt_e h
      refine zv_iinc X (v := v26) (L' := [(2, .int (v26)), (0, va_rf (a0)), (1, va_rf (a1))]) 2 dJ11_equals_26 rfl e26 (by decide) (by simp [zk_s1, zk_rc, zk_ic, zk_jc]) ?_
      refine zv_goto X (tgt := 9) dJ11_equals_29 (by decide) ?_
      refine zv_sub (L' := [(0, va_rf (a0)), (1, va_rf (a1)), (2, .int (v26))]) [1, 2, 0] rfl ?_
      exact hK9 _ h
    · refine zv_iconst X (v := 0) dJ11_equals_24 rfl ?_
      exact zv_zret X (ty := .boolean) rfl (by first | exact Nat.le_of_ble_eq_true rfl | omega | (dsimp only; omega)) (by first | exact Nat.le_of_ble_eq_true rfl | omega | (dsimp only; omega)) dJ11_equals_25 ⟨rfl, ⟨h, rfl⟩⟩
theorem kl_J11_equals_9 {p : Program} {l : Launch} {e : Env} {s : State} {m : MethodId} {args : Array Value} {below : List Frame} {meth : Method} {c : Code} {D : zk_G} {g : zk_M} {b0 : Nat} (X : zk_X p s m args meth c D g b0 cJ11_equals 3 "java/lang/StringLatin1" "equals" (some Jvm.ClassFile.FieldType.boolean)) {post : Int32 → Prop}  {a0 : Option Nat} {a1 : Option Nat} {P : zk_H}   : ∀ (n : Nat) (a2 : Int32), wl_J11_equals_9 post a0 a1 P n a2 → zV p l e ({ frames := 0, cells := 0, slots := 0, locals := 0 } : Room) s m args below meth c D b0 3 (0) (0) (MQ below (va_Qi (fun r u => post r ∧ u = P) (zk_B D b0) (zk_A b0)) args s 0 0 (zk_A b0)) P 9 [(0, va_rf (a0)), (1, va_rf (a1)), (2, .int (a2))] [] := by
  intro n
  induction n with
  | zero => intro _ h; exact h.elim
  | succ n ih =>
    intro a2 h
    exact kb_J11_equals_9 X  (fun u0 h => ih _ h)  h
theorem md_J11_equals : yJ11_equals.cls ≠ "java/lang/invoke/MethodHandle" ∧ yJ11_equals.cls ≠ "java/lang/invoke/VarHandle" ∧ (parseMethodDescriptor yJ11_equals.desc).map (fun d => d.parameters.length) = some 2 := by decide +kernel
theorem wk_J11_equals (l : Launch) {D : zk_G} {g : zk_M} {b0 : Nat} {post : Int32 → Prop} {x0 : Option Nat} {x1 : Option Nat} {P : zk_H} (hh : wp_J11_equals post x0 x1 P) : Met l yJ11_equals (ws_ yJ11_equals cJ11_equals 3 (some Jvm.ClassFile.FieldType.boolean)) ({ frames := 0, cells := 0, slots := 0, locals := 0 } : Room) (va_Pc [va_rf (x0), va_rf (x1)] (zk_pre D g b0 P)) (va_Qi (fun r u => post r ∧ u = P) (zk_B D b0) (zk_A b0)) 0 0 (zk_A b0) := by
  refine zk_enter "java/lang/StringLatin1" "equals" rfl rfl (plainFor_of_name (by decide)) [va_rf (x0), va_rf (x1)] (by cases x0 <;> cases x1 <;> exact Nat.le_of_ble_eq_true rfl) ?_
  intro p e s m args below meth c X
  refine zk_at0 (L' := [(0, va_rf (x0)), (1, va_rf (x1))]) (by cases x0 <;> cases x1 <;> rfl) ?_
  have h := hh
  unfold wp_J11_equals at h
  refine zv_aload_n X 0 dJ11_equals_0 rfl ?_
  refine zv_alen X dJ11_equals_1 h (fun v1 h => ?_)
  refine zv_aload_n X 1 dJ11_equals_2 rfl ?_
  refine zv_alen X dJ11_equals_3 h (fun v3 h => ?_)
  refine zv_icmp_ne X (tgt := 34) dJ11_equals_4 (by decide) h (fun h => ?_) (fun h => ?_)
  · refine zv_iconst X (v := 0) dJ11_equals_34 rfl ?_
    exact zv_zret X (ty := .boolean) rfl (by first | exact Nat.le_of_ble_eq_true rfl | omega | (dsimp only; omega)) (by first | exact Nat.le_of_ble_eq_true rfl | omega | (dsimp only; omega)) dJ11_equals_35 ⟨rfl, ⟨h, rfl⟩⟩
  · refine zv_iconst X (v := 0) dJ11_equals_7 rfl ?_
    refine zv_istore_n X (i := 2) (L' := [(2, .int (0)), (0, va_rf (x0)), (1, va_rf (x1))]) dJ11_equals_8 rfl (by decide) (by simp [zk_s1, zk_s2, zk_rc, zk_ic, zk_jc]) ?_
    refine zv_sub (L' := [(0, va_rf (x0)), (1, va_rf (x1)), (2, .int (0))]) [1, 2, 0] rfl ?_
    obtain ⟨n8, h⟩ := h
    exact kl_J11_equals_9 X  n8 _ h
theorem kj_J9_equals_36 {p : Program} {l : Launch} {e : Env} {s : State} {m : MethodId} {args : Array Value} {below : List Frame} {meth : Method} {c : Code} {D : zk_G} {g : zk_M} {b0 : Nat} (X : zk_X p s m args meth c D g b0 cJ9_equals 3 "java/lang/String" "equals" (some Jvm.ClassFile.FieldType.boolean)) {post : Int32 → Prop}  {a0 : Option Nat} {a2 : Option Nat} {P : zk_H}    (hh : wj_J9_equals_36 post a0 a2 P) : zV p l e ({ frames := 1, cells := 0, slots := 0, locals := 22 } : Room) s m args below meth c D b0 3 (0) (0) (MQ below (va_Qi (fun r u => post r ∧ u = P) (zk_B D b0) (zk_A b0)) args s 0 0 (zk_A b0)) P 36 [(0, va_rf (a0)), (2, va_rf (a2))] [] := by
  have h := hh
  unfold wj_J9_equals_36 at h
  refine zv_aload_n X 0 dJ9_equals_36 rfl ?_
  refine zv_getf_r X fo_q907 dJ9_equals_37 h (fun v37 h => ?_)
  refine zv_aload_n X 1 dJ9_equals_40 rfl ?_
  refine zv_getf_r X fo_q907 dJ9_equals_41 h (fun v41 h => ?_)
  refine zv_ciR ((zr_S X (As := [va_rf (v37), va_rf (v41)]) (rest := []) (wk_J11_equals l h) (va_cwS 2 X.hts (lw_S q982 q983 q120 q984) rfl rfl rfl md_J11_equals ⟨Nat.le_of_ble_eq_true rfl, Nat.le_of_ble_eq_true rfl⟩) rfl rfl (zk_rs (Nat.le_of_ble_eq_true rfl)) dJ9_equals_44 ⟨by first | exact Nat.le_of_ble_eq_true rfl | omega | (dsimp only; omega), by first | exact Nat.le_of_ble_eq_true rfl | omega | (dsimp only; omega)⟩)) (fun v44 h => ?_)
  refine zv_if_eq X (tgt := 54) dJ9_equals_47 (by decide) h (fun h => ?_) (fun h => ?_)
  · refine zv_iconst X (v := 0) dJ9_equals_54 rfl ?_
    exact zv_zret X (ty := .boolean) rfl (by first | exact Nat.le_of_ble_eq_true rfl | omega | (dsimp only; omega)) (by first | exact Nat.le_of_ble_eq_true rfl | omega | (dsimp only; omega)) dJ9_equals_55 ⟨rfl, ⟨h, rfl⟩⟩
  · refine zv_iconst X (v := 1) dJ9_equals_50 rfl ?_
    refine zv_goto X (tgt := 55) dJ9_equals_51 (by decide) ?_
    exact zv_zret X (ty := .boolean) rfl (by first | exact Nat.le_of_ble_eq_true rfl | omega | (dsimp only; omega)) (by first | exact Nat.le_of_ble_eq_true rfl | omega | (dsimp only; omega)) dJ9_equals_55 ⟨rfl, ⟨h, rfl⟩⟩
theorem md_J9_equals : yJ9_equals.cls ≠ "java/lang/invoke/MethodHandle" ∧ yJ9_equals.cls ≠ "java/lang/invoke/VarHandle" ∧ (parseMethodDescriptor yJ9_equals.desc).map (fun d => d.parameters.length) = some 1 := by decide +kernel
theorem wk_J9_equals (l : Launch) {D : zk_G} {g : zk_M} {b0 : Nat} {post : Int32 → Prop} {this : Nat} {x1 : Option Nat} {P : zk_H} (hh : wp_J9_equals post this x1 P) : Met l yJ9_equals (ws_ yJ9_equals cJ9_equals 3 (some Jvm.ClassFile.FieldType.boolean)) ({ frames := 1, cells := 0, slots := 0, locals := 22 } : Room) (va_Pc [.ref this, va_rf (x1)] (zk_pre D g b0 P)) (va_Qi (fun r u => post r ∧ u = P) (zk_B D b0) (zk_A b0)) 0 0 (zk_A b0) := by
  refine zk_enter "java/lang/String" "equals" rfl rfl (plainFor_of_name (by decide)) [.ref this, va_rf (x1)] (by cases x1 <;> exact Nat.le_of_ble_eq_true rfl) ?_
  intro p e s m args below meth c X
  refine zk_at0 (L' := [(0, va_rf (some this)), (1, va_rf (x1))]) (by cases x1 <;> rfl) ?_
  have h := hh
  unfold wp_J9_equals at h
  refine zv_aload_n X 0 dJ9_equals_0 rfl ?_
  refine zv_aload_n X 1 dJ9_equals_1 rfl ?_
  refine zv_acmp_ne X (tgt := 7) dJ9_equals_2 (by decide) h (fun h => ?_) (fun h => ?_)
  · refine zv_aload_n X 1 dJ9_equals_7 rfl ?_
    refine zv_inst X zk_cs3 zk_l0 q981 dJ9_equals_8 h (fun v8 h => ?_)
    refine zv_if_eq X (tgt := 54) dJ9_equals_11 (by decide) h (fun h => ?_) (fun h => ?_)
    · refine zv_iconst X (v := 0) dJ9_equals_54 rfl ?_
      exact zv_zret X (ty := .boolean) rfl (by first | exact Nat.le_of_ble_eq_true rfl | omega | (dsimp only; omega)) (by first | exact Nat.le_of_ble_eq_true rfl | omega | (dsimp only; omega)) dJ9_equals_55 ⟨rfl, ⟨h, rfl⟩⟩
    · refine zv_aload_n X 1 dJ9_equals_14 rfl ?_
      refine zv_cast X zk_cs3 q981 dJ9_equals_15 h (fun h => ?_)
      refine zv_astore_n X (i := 2) (L' := [(2, va_rf (x1)), (0, va_rf (some this)), (1, va_rf (x1))]) dJ9_equals_18 rfl (by decide) (by simp [zk_s1, zk_s2, zk_rc, zk_ic, zk_jc]) ?_
      refine zv_gets X (i := 1) rfl q893 rfl dJ9_equals_19 ?_
      refine zv_if_eq X (tgt := 36) dJ9_equals_22 (by decide) h (fun h => ?_) (fun h => ?_)
      · refine zv_sub (L' := [(0, va_rf (some this)), (2, va_rf (x1))]) [1, 0] rfl ?_
        exact kj_J9_equals_36 X  h
      · refine zv_aload_n X 1 dJ9_equals_25 rfl ?_
        refine zv_getf_i X fo_q908 dJ9_equals_26 h (fun v26 h => ?_)
        refine zv_aload_n X 0 dJ9_equals_29 rfl ?_
        refine zv_getf_i X fo_q908 dJ9_equals_30 h (fun v30 h => ?_)
        refine zv_icmp_ne X (tgt := 54) dJ9_equals_33 (by decide) h (fun h => ?_) (fun h => ?_)
        · refine zv_iconst X (v := 0) dJ9_equals_54 rfl ?_
          exact zv_zret X (ty := .boolean) rfl (by first | exact Nat.le_of_ble_eq_true rfl | omega | (dsimp only; omega)) (by first | exact Nat.le_of_ble_eq_true rfl | omega | (dsimp only; omega)) dJ9_equals_55 ⟨rfl, ⟨h, rfl⟩⟩
        · refine zv_sub (L' := [(0, va_rf (some this)), (2, va_rf (x1))]) [1, 0] rfl ?_
          exact kj_J9_equals_36 X  h
  · refine zv_iconst X (v := 1) dJ9_equals_5 rfl ?_
    exact zv_zret X (ty := .boolean) rfl (by first | exact Nat.le_of_ble_eq_true rfl | omega | (dsimp only; omega)) (by first | exact Nat.le_of_ble_eq_true rfl | omega | (dsimp only; omega)) dJ9_equals_6 ⟨rfl, ⟨h, rfl⟩⟩
theorem md_J7_init : yJ7_init.cls ≠ "java/lang/invoke/MethodHandle" ∧ yJ7_init.cls ≠ "java/lang/invoke/VarHandle" ∧ (parseMethodDescriptor yJ7_init.desc).map (fun d => d.parameters.length) = some 1 := by decide +kernel
theorem wk_J7_init (l : Launch) {D : zk_G} {g : zk_M} {b0 : Nat} {post : zk_H → Prop} {this : Nat} {x1 : Int32} {P : zk_H} (hh : wp_J7_init post this x1 P) : Met l yJ7_init (ws_ yJ7_init cJ7_init 2 none) ({ frames := 1, cells := 1, slots := 128, locals := 20 } : Room) (va_Pc [.ref this, .int (x1)] (zk_pre D g b0 P)) (va_Qv post (zk_B D b0) (zk_A b0)) 1 128 (zk_A b0) := by
  refine zk_enter "java/lang/AbstractStringBuilder" "<init>" rfl rfl (plainFor_of_name (by decide)) [.ref this, .int (x1)] (Nat.le_of_ble_eq_true rfl) ?_
  intro p e s m args below meth c X
  refine zk_at0 (L' := [(0, va_rf (some this)), (1, .int (x1))]) (rfl) ?_
  have h := hh
  unfold wp_J7_init at h
  refine zv_aload_n X 0 dJ7_init_0 rfl ?_
  refine zv_objInit X q758 dJ7_init_1 (by decide) (by decide) (by decide) ?_
  refine zv_gets X (i := 1) rfl q759 rfl dJ7_init_4 ?_
  refine zv_if_eq X (tgt := 25) dJ7_init_7 (by decide) h (fun h => ?_) (fun h => ?_)
  · refine zv_aload_n X 0 dJ7_init_25 rfl ?_
    refine zv_iload_n X 1 dJ7_init_26 rfl ?_
    exact h.elim
  · refine zv_aload_n X 0 dJ7_init_10 rfl ?_
    refine zv_iload_n X 1 dJ7_init_11 rfl ?_
    refine zv_newa X (ty := .byte) rfl (by decide) (fun _ h => h) (fun _ => rfl) q352 (by decide) (by first | exact Nat.le_of_ble_eq_true rfl | omega | (dsimp only; omega)) (by first | exact Nat.le_of_ble_eq_true rfl | omega | (dsimp only; omega)) dJ7_init_12 h (fun v12 P12 h => ?_)
    refine zv_put_r X fp_q768 (zk_tyA _) (fun z => by cases z) dJ7_init_14 h (fun P14 h => ?_)
    refine zv_aload_n X 0 dJ7_init_17 rfl ?_
    refine zv_iconst X (v := 0) dJ7_init_18 rfl ?_
    refine zv_put_n X fp_q769 (fun z => by cases z) dJ7_init_19 h (fun P19 h => ?_)
    refine zv_goto X (tgt := 38) dJ7_init_22 (by decide) ?_
    exact zv_vret X rfl (by first | exact Nat.le_of_ble_eq_true rfl | omega | (dsimp only; omega)) (by first | exact Nat.le_of_ble_eq_true rfl | omega | (dsimp only; omega)) dJ7_init_38 h
theorem md_J8_init : yJ8_init.cls ≠ "java/lang/invoke/MethodHandle" ∧ yJ8_init.cls ≠ "java/lang/invoke/VarHandle" ∧ (parseMethodDescriptor yJ8_init.desc).map (fun d => d.parameters.length) = some 0 := by decide +kernel
theorem wk_J8_init (l : Launch) {D : zk_G} {g : zk_M} {b0 : Nat} {post : zk_H → Prop} {this : Nat} {P : zk_H} (hh : wp_J8_init post this P) : Met l yJ8_init (ws_ yJ8_init cJ8_init 1 none) ({ frames := 2, cells := 1, slots := 128, locals := 41 } : Room) (va_Pc [.ref this] (zk_pre D g b0 P)) (va_Qv post (zk_B D b0) (zk_A b0)) 1 128 (zk_A b0) := by
  refine zk_enter "java/lang/StringBuilder" "<init>" rfl rfl (plainFor_of_name (by decide)) [.ref this] (Nat.le_of_ble_eq_true rfl) ?_
  intro p e s m args below meth c X
  refine zk_at0 (L' := [(0, va_rf (some this))]) (rfl) ?_
  have h := hh
  unfold wp_J8_init at h
  refine zv_aload_n X 0 dJ8_init_0 rfl ?_
  refine zv_bipush X (v := 16) dJ8_init_1 rfl ?_
  refine zv_cv ((zr_I X (As := [.int (16)]) (rest := []) (wk_J7_init l h) (cwI 1 X.hts (lw_meth q757) rfl rfl rfl (X.w q116) (X.w q755) (X.w q756) rfl md_J7_init ⟨Nat.le_of_ble_eq_true rfl, Nat.le_of_ble_eq_true rfl⟩) rfl rfl (zk_rs (Nat.le_of_ble_eq_true rfl)) dJ8_init_3 ⟨by first | exact Nat.le_of_ble_eq_true rfl | omega | (dsimp only; omega), by first | exact Nat.le_of_ble_eq_true rfl | omega | (dsimp only; omega)⟩)) (fun P3 h => ?_)
  exact zv_vret X rfl (by first | exact Nat.le_of_ble_eq_true rfl | omega | (dsimp only; omega)) (by first | exact Nat.le_of_ble_eq_true rfl | omega | (dsimp only; omega)) dJ8_init_6 h
theorem md_J7_getValue : yJ7_getValue.cls ≠ "java/lang/invoke/MethodHandle" ∧ yJ7_getValue.cls ≠ "java/lang/invoke/VarHandle" ∧ (parseMethodDescriptor yJ7_getValue.desc).map (fun d => d.parameters.length) = some 0 := by decide +kernel
theorem wk_J7_getValue (l : Launch) {D : zk_G} {g : zk_M} {b0 : Nat} {post : Option Nat → Prop} {this : Nat} {P : zk_H} (hh : wp_J7_getValue post this P) : Met l yJ7_getValue (ws_ yJ7_getValue cJ7_getValue 1 (some (Jvm.ClassFile.FieldType.array Jvm.ClassFile.FieldType.byte))) ({ frames := 0, cells := 0, slots := 0, locals := 0 } : Room) (va_Pc [.ref this] (zk_pre D g b0 P)) (va_Qq (fun r u => post r ∧ u = P) (zk_B D b0) (zk_A b0)) 0 0 (zk_A b0) := by
  refine zk_enter "java/lang/AbstractStringBuilder" "getValue" rfl rfl (plainFor_of_name (by decide)) [.ref this] (Nat.le_of_ble_eq_true rfl) ?_
  intro p e s m args below meth c X
  refine zk_at0 (L' := [(0, va_rf (some this))]) (rfl) ?_
  have h := hh
  unfold wp_J7_getValue at h
  refine zv_aload_n X 0 dJ7_getValue_0 rfl ?_
  refine zv_getf_r X fo_q768 dJ7_getValue_1 h (fun v1 h => ?_)
  exact zv_aret X rfl (Or.inr ⟨_, rfl⟩) (by first | exact Nat.le_of_ble_eq_true rfl | omega | (dsimp only; omega)) (by first | exact Nat.le_of_ble_eq_true rfl | omega | (dsimp only; omega)) dJ7_getValue_4 ⟨h, rfl⟩
theorem md_J7_length : yJ7_length.cls ≠ "java/lang/invoke/MethodHandle" ∧ yJ7_length.cls ≠ "java/lang/invoke/VarHandle" ∧ (parseMethodDescriptor yJ7_length.desc).map (fun d => d.parameters.length) = some 0 := by decide +kernel
theorem wk_J7_length (l : Launch) {D : zk_G} {g : zk_M} {b0 : Nat} {post : Int32 → Prop} {this : Nat} {P : zk_H} (hh : wp_J7_length post this P) : Met l yJ7_length (ws_ yJ7_length cJ7_length 1 (some Jvm.ClassFile.FieldType.int)) ({ frames := 0, cells := 0, slots := 0, locals := 0 } : Room) (va_Pc [.ref this] (zk_pre D g b0 P)) (va_Qi (fun r u => post r ∧ u = P) (zk_B D b0) (zk_A b0)) 0 0 (zk_A b0) := by
  refine zk_enter "java/lang/AbstractStringBuilder" "length" rfl rfl (plainFor_of_name (by decide)) [.ref this] (Nat.le_of_ble_eq_true rfl) ?_
  intro p e s m args below meth c X
  refine zk_at0 (L' := [(0, va_rf (some this))]) (rfl) ?_
  have h := hh
  unfold wp_J7_length at h
  refine zv_aload_n X 0 dJ7_length_0 rfl ?_
  refine zv_getf_i X fo_q771 dJ7_length_1 h (fun v1 h => ?_)
  exact zv_iret X rfl (by first | exact Nat.le_of_ble_eq_true rfl | omega | (dsimp only; omega)) (by first | exact Nat.le_of_ble_eq_true rfl | omega | (dsimp only; omega)) dJ7_length_4 ⟨h, rfl⟩
theorem md_J8_length : yJ8_length.cls ≠ "java/lang/invoke/MethodHandle" ∧ yJ8_length.cls ≠ "java/lang/invoke/VarHandle" ∧ (parseMethodDescriptor yJ8_length.desc).map (fun d => d.parameters.length) = some 0 := by decide +kernel
theorem wk_J8_length (l : Launch) {D : zk_G} {g : zk_M} {b0 : Nat} {post : Int32 → Prop} {this : Nat} {P : zk_H} (hh : wp_J8_length post this P) : Met l yJ8_length (ws_ yJ8_length cJ8_length 1 (some Jvm.ClassFile.FieldType.int)) ({ frames := 1, cells := 0, slots := 0, locals := 20 } : Room) (va_Pc [.ref this] (zk_pre D g b0 P)) (va_Qi (fun r u => post r ∧ u = P) (zk_B D b0) (zk_A b0)) 0 0 (zk_A b0) := by
  refine zk_enter "java/lang/StringBuilder" "length" rfl rfl (plainFor_of_name (by decide)) [.ref this] (Nat.le_of_ble_eq_true rfl) ?_
  intro p e s m args below meth c X
  refine zk_at0 (L' := [(0, va_rf (some this))]) (rfl) ?_
  have h := hh
  unfold wp_J8_length at h
  refine zv_aload_n X 0 dJ8_length_0 rfl ?_
  refine zv_ciR ((zr_P X (As := []) (rest := []) h (fun a h => wk_J7_length l h) (va_cwSU 0 X.hts (zk_wsSU q785 q2593 q780 q786 q116 q787) rfl rfl rfl ⟨by decide, md_J7_length.2.2⟩ ⟨Nat.le_of_ble_eq_true rfl, Nat.le_of_ble_eq_true rfl⟩) rfl rfl (zk_rs (Nat.le_of_ble_eq_true rfl)) dJ8_length_1 ⟨by first | exact Nat.le_of_ble_eq_true rfl | omega | (dsimp only; omega), by first | exact Nat.le_of_ble_eq_true rfl | omega | (dsimp only; omega)⟩)) (fun v1 h => ?_)
  exact zv_iret X rfl (by first | exact Nat.le_of_ble_eq_true rfl | omega | (dsimp only; omega)) (by first | exact Nat.le_of_ble_eq_true rfl | omega | (dsimp only; omega)) dJ8_length_4 ⟨h, rfl⟩
theorem md_J7_isLatin1 : yJ7_isLatin1.cls ≠ "java/lang/invoke/MethodHandle" ∧ yJ7_isLatin1.cls ≠ "java/lang/invoke/VarHandle" ∧ (parseMethodDescriptor yJ7_isLatin1.desc).map (fun d => d.parameters.length) = some 0 := by decide +kernel
theorem wk_J7_isLatin1 (l : Launch) {D : zk_G} {g : zk_M} {b0 : Nat} {post : Int32 → Prop} {this : Nat} {P : zk_H} (hh : wp_J7_isLatin1 post this P) : Met l yJ7_isLatin1 (ws_ yJ7_isLatin1 cJ7_isLatin1 1 (some Jvm.ClassFile.FieldType.boolean)) ({ frames := 0, cells := 0, slots := 0, locals := 0 } : Room) (va_Pc [.ref this] (zk_pre D g b0 P)) (va_Qi (fun r u => post r ∧ u = P) (zk_B D b0) (zk_A b0)) 0 0 (zk_A b0) := by
  refine zk_enter "java/lang/AbstractStringBuilder" "isLatin1" rfl rfl (plainFor_of_name (by decide)) [.ref this] (Nat.le_of_ble_eq_true rfl) ?_
  intro p e s m args below meth c X
  refine zk_at0 (L' := [(0, va_rf (some this))]) (rfl) ?_
  have h := hh
  unfold wp_J7_isLatin1 at h
  refine zv_gets X (i := 1) rfl q759 rfl dJ7_isLatin1_0 ?_
  refine zv_if_eq X (tgt := 17) dJ7_isLatin1_3 (by decide) h (fun h => ?_) (fun h => ?_)
  · refine zv_iconst X (v := 0) dJ7_isLatin1_17 rfl ?_
    exact zv_zret X (ty := .boolean) rfl (by first | exact Nat.le_of_ble_eq_true rfl | omega | (dsimp only; omega)) (by first | exact Nat.le_of_ble_eq_true rfl | omega | (dsimp only; omega)) dJ7_isLatin1_18 ⟨rfl, ⟨h, rfl⟩⟩
  · refine zv_aload_n X 0 dJ7_isLatin1_6 rfl ?_
    refine zv_getf_i X fo_q769 dJ7_isLatin1_7 h (fun v7 h => ?_)
    refine zv_if_ne X (tgt := 17) dJ7_isLatin1_10 (by decide) h (fun h => ?_) (fun h => ?_)
    · refine zv_iconst X (v := 0) dJ7_isLatin1_17 rfl ?_
      exact zv_zret X (ty := .boolean) rfl (by first | exact Nat.le_of_ble_eq_true rfl | omega | (dsimp only; omega)) (by first | exact Nat.le_of_ble_eq_true rfl | omega | (dsimp only; omega)) dJ7_isLatin1_18 ⟨rfl, ⟨h, rfl⟩⟩
    · refine zv_iconst X (v := 1) dJ7_isLatin1_13 rfl ?_
      refine zv_goto X (tgt := 18) dJ7_isLatin1_14 (by decide) ?_
      exact zv_zret X (ty := .boolean) rfl (by first | exact Nat.le_of_ble_eq_true rfl | omega | (dsimp only; omega)) (by first | exact Nat.le_of_ble_eq_true rfl | omega | (dsimp only; omega)) dJ7_isLatin1_18 ⟨rfl, ⟨h, rfl⟩⟩
theorem md_J5_checkLength : yJ5_checkLength.cls ≠ "java/lang/invoke/MethodHandle" ∧ yJ5_checkLength.cls ≠ "java/lang/invoke/VarHandle" ∧ (parseMethodDescriptor yJ5_checkLength.desc).map (fun d => d.parameters.length) = some 2 := by decide +kernel
theorem wk_J5_checkLength (l : Launch) {D : zk_G} {g : zk_M} {b0 : Nat} {post : Prop} {x0 : Int32} {x1 : Int32} {P : zk_H} (hh : wp_J5_checkLength post x0 x1) : Met l yJ5_checkLength (ws_ yJ5_checkLength cJ5_checkLength 2 none) ({ frames := 0, cells := 0, slots := 0, locals := 0 } : Room) (va_Pc [.int (x0), .int (x1)] (zk_pre D g b0 P)) (va_Qv (fun u => post ∧ u = P) (zk_B D b0) (zk_A b0)) 0 0 (zk_A b0) := by
  refine zk_enter "java/util/Arrays" "checkLength" rfl rfl (plainFor_of_name (by decide)) [.int (x0), .int (x1)] (Nat.le_of_ble_eq_true rfl) ?_
  intro p e s m args below meth c X
  refine zk_at0 (L' := [(0, .int (x0)), (1, .int (x1))]) (rfl) ?_
  have h := hh
  unfold wp_J5_checkLength at h
  refine zv_iload_n X 1 dJ5_checkLength_0 rfl ?_
  refine zv_iload_n X 0 dJ5_checkLength_1 rfl ?_
  refine zv_icmp_ge X (tgt := 37) dJ5_checkLength_2 (by decide) h (fun h => ?_) (fun h => ?_)
  · exact zv_vret X rfl (by first | exact Nat.le_of_ble_eq_true rfl | omega | (dsimp only; omega)) (by first | exact Nat.le_of_ble_eq_true rfl | omega | (dsimp only; omega)) dJ5_checkLength_37 ⟨h, rfl⟩
  · exact h.elim
theorem md_J5_copyOfRangeByte : yJ5_copyOfRangeByte.cls ≠ "java/lang/invoke/MethodHandle" ∧ yJ5_copyOfRangeByte.cls ≠ "java/lang/invoke/VarHandle" ∧ (parseMethodDescriptor yJ5_copyOfRangeByte.desc).map (fun d => d.parameters.length) = some 3 := by decide +kernel
theorem wk_J5_copyOfRangeByte (l : Launch) {D : zk_G} {g : zk_M} {b0 : Nat} {post : Option Nat → zk_H → Prop} {x0 : Option Nat} {x1 : Int32} {x2 : Int32} {P : zk_H} (hh : wp_J5_copyOfRangeByte post x0 x1 x2 P) : Met l yJ5_copyOfRangeByte (ws_ yJ5_copyOfRangeByte cJ5_copyOfRangeByte 5 (some (Jvm.ClassFile.FieldType.array Jvm.ClassFile.FieldType.byte))) ({ frames := 1, cells := 1, slots := 8, locals := 40 } : Room) (va_Pc [va_rf (x0), .int (x1), .int (x2)] (zk_pre D g b0 P)) (va_Qq post (zk_B D b0) (zk_A b0)) 1 8 (zk_A b0) := by
  refine zk_enter "java/util/Arrays" "copyOfRangeByte" rfl rfl (plainFor_of_name (by decide)) [va_rf (x0), .int (x1), .int (x2)] (by cases x0 <;> exact Nat.le_of_ble_eq_true rfl) ?_
  intro p e s m args below meth c X
  refine zk_at0 (L' := [(0, va_rf (x0)), (1, .int (x1)), (2, .int (x2))]) (by cases x0 <;> rfl) ?_
  have h := hh
  unfold wp_J5_copyOfRangeByte at h
  refine zv_iload_n X 1 dJ5_copyOfRangeByte_0 rfl ?_
  refine zv_iload_n X 2 dJ5_copyOfRangeByte_1 rfl ?_
  refine zv_cvR ((zr_S X (As := [.int (x1), .int (x2)]) (rest := []) (wk_J5_checkLength l h) (va_cwS 2 X.hts (lw_S q890 q891 q109 q892) rfl rfl rfl md_J5_checkLength ⟨Nat.le_of_ble_eq_true rfl, Nat.le_of_ble_eq_true rfl⟩) rfl rfl (zk_rs (Nat.le_of_ble_eq_true rfl)) dJ5_copyOfRangeByte_2 ⟨by first | exact Nat.le_of_ble_eq_true rfl | omega | (dsimp only; omega), by first | exact Nat.le_of_ble_eq_true rfl | omega | (dsimp only; omega)⟩)) (fun h => ?_)
  refine zv_iload_n X 2 dJ5_copyOfRangeByte_5 rfl ?_
  refine zv_iload_n X 1 dJ5_copyOfRangeByte_6 rfl ?_
  refine zv_isub X dJ5_copyOfRangeByte_7 ?_
  refine zv_top_i h (fun v8 h => ?_)
  refine zv_istore_n X (i := 3) (L' := [(3, .int (v8)), (0, va_rf (x0)), (1, .int (x1)), (2, .int (x2))]) dJ5_copyOfRangeByte_8 rfl (by decide) rfl ?_
  refine zv_iload_n X 0 dJ5_copyOfRangeByte_9 rfl ?_
  refine zv_newa X (ty := .byte) rfl (by decide) (fun _ h => h) (fun _ => rfl) q352 (by decide) (by first | exact Nat.le_of_ble_eq_true rfl | omega | (dsimp only; omega)) (by first | exact Nat.le_of_ble_eq_true rfl | omega | (dsimp only; omega)) dJ5_copyOfRangeByte_10 h (fun v10 P10 h => ?_)
  refine zv_astore X (L' := [(4, va_rf (some v10)), (3, .int (v8)), (0, va_rf (x0)), (1, .int (x1)), (2, .int (x2))]) dJ5_copyOfRangeByte_12 (by decide) rfl ?_
  refine zv_aload_n X 2 dJ5_copyOfRangeByte_14 rfl ?_
  refine zv_iload_n X 3 dJ5_copyOfRangeByte_15 rfl ?_
  refine zv_aload X 0 dJ5_copyOfRangeByte_16 rfl ?_
  refine zv_iconst X (v := 0) dJ5_copyOfRangeByte_18 rfl ?_
  refine zv_aload_n X 2 dJ5_copyOfRangeByte_19 rfl ?_
  refine zv_alen X dJ5_copyOfRangeByte_20 h (fun v20 h => ?_)
  refine zv_iload_n X 3 dJ5_copyOfRangeByte_21 rfl ?_
  refine zv_isub X dJ5_copyOfRangeByte_22 ?_
  refine zv_iload_n X 1 dJ5_copyOfRangeByte_23 rfl ?_
  refine zv_mmin X q288 ⟨by first | decide | (dsimp only; decide), by first | decide | (dsimp only; decide)⟩ (zk_rs (Nat.le_of_ble_eq_true rfl)) (by first | exact Nat.le_of_ble_eq_true rfl | dsimp only; omega) (by first | exact Nat.le_of_ble_eq_true rfl | dsimp only; omega) dJ5_copyOfRangeByte_24 ?_
  refine zv_copyB X q291 ⟨by first | decide | (dsimp only; decide), by first | decide | (dsimp only; decide)⟩ (zk_rs (Nat.le_of_ble_eq_true rfl)) dJ5_copyOfRangeByte_27 h (fun P27 h => ?_)
  refine zv_aload X 0 dJ5_copyOfRangeByte_30 rfl ?_
  exact zv_aret X rfl (Or.inr ⟨_, rfl⟩) (by first | exact Nat.le_of_ble_eq_true rfl | omega | (dsimp only; omega)) (by first | exact Nat.le_of_ble_eq_true rfl | omega | (dsimp only; omega)) dJ5_copyOfRangeByte_32 h
theorem kj_J5_copyOfRange_2_10 {p : Program} {l : Launch} {e : Env} {s : State} {m : MethodId} {args : Array Value} {below : List Frame} {meth : Method} {c : Code} {D : zk_G} {g : zk_M} {b0 : Nat} (X : zk_X p s m args meth c D g b0 cJ5_copyOfRange_2 3 "java/util/Arrays" "copyOfRange" (some (Jvm.ClassFile.FieldType.array Jvm.ClassFile.FieldType.byte))) {post : Option Nat → zk_H → Prop}  {a0 : Option Nat} {a1 : Int32} {a2 : Int32} {P : zk_H}    (hh : wj_J5_copyOfRange_2_10 post a0 a1 a2 P) : zV p l e ({ frames := 2, cells := 1, slots := 8, locals := 64 } : Room) s m args below meth c D b0 3 (0) (0) (MQ below (va_Qq post (zk_B D b0) (zk_A b0)) args s 1 8 (zk_A b0)) P 10 [(0, va_rf (a0)), (1, .int (a1)), (2, .int (a2))] [] := by
  have h := hh
  unfold wj_J5_copyOfRange_2_10 at h
  refine zv_aload_n X 0 dJ5_copyOfRange_2_10 rfl ?_
  refine zv_iload_n X 1 dJ5_copyOfRange_2_11 rfl ?_
  refine zv_iload_n X 2 dJ5_copyOfRange_2_12 rfl ?_
  refine zv_cq ((zr_S X (As := [va_rf (a0), .int (a1), .int (a2)]) (rest := []) (wk_J5_copyOfRangeByte l h) (va_cwS 3 X.hts (lw_S q887 q888 q109 q889) rfl rfl rfl md_J5_copyOfRangeByte ⟨Nat.le_of_ble_eq_true rfl, Nat.le_of_ble_eq_true rfl⟩) rfl rfl (zk_rs (Nat.le_of_ble_eq_true rfl)) dJ5_copyOfRange_2_13 ⟨by first | exact Nat.le_of_ble_eq_true rfl | omega | (dsimp only; omega), by first | exact Nat.le_of_ble_eq_true rfl | omega | (dsimp only; omega)⟩)) (fun v13 P13 h => ?_)
  exact zv_aret X rfl (Or.inr ⟨_, rfl⟩) (by first | exact Nat.le_of_ble_eq_true rfl | omega | (dsimp only; omega)) (by first | exact Nat.le_of_ble_eq_true rfl | omega | (dsimp only; omega)) dJ5_copyOfRange_2_16 h
theorem md_J5_copyOfRange_2 : yJ5_copyOfRange_2.cls ≠ "java/lang/invoke/MethodHandle" ∧ yJ5_copyOfRange_2.cls ≠ "java/lang/invoke/VarHandle" ∧ (parseMethodDescriptor yJ5_copyOfRange_2.desc).map (fun d => d.parameters.length) = some 3 := by decide +kernel
theorem wk_J5_copyOfRange_2 (l : Launch) {D : zk_G} {g : zk_M} {b0 : Nat} {post : Option Nat → zk_H → Prop} {x0 : Option Nat} {x1 : Int32} {x2 : Int32} {P : zk_H} (hh : wp_J5_copyOfRange_2 post x0 x1 x2 P) : Met l yJ5_copyOfRange_2 (ws_ yJ5_copyOfRange_2 cJ5_copyOfRange_2 3 (some (Jvm.ClassFile.FieldType.array Jvm.ClassFile.FieldType.byte))) ({ frames := 2, cells := 1, slots := 8, locals := 64 } : Room) (va_Pc [va_rf (x0), .int (x1), .int (x2)] (zk_pre D g b0 P)) (va_Qq post (zk_B D b0) (zk_A b0)) 1 8 (zk_A b0) := by
  refine zk_enter "java/util/Arrays" "copyOfRange" rfl rfl (plainFor_of_name (by decide)) [va_rf (x0), .int (x1), .int (x2)] (by cases x0 <;> exact Nat.le_of_ble_eq_true rfl) ?_
  intro p e s m args below meth c X
  refine zk_at0 (L' := [(0, va_rf (x0)), (1, .int (x1)), (2, .int (x2))]) (by cases x0 <;> rfl) ?_
  have h := hh
  unfold wp_J5_copyOfRange_2 at h
  refine zv_iload_n X 1 dJ5_copyOfRange_2_0 rfl ?_
  refine zv_if_ne X (tgt := 10) dJ5_copyOfRange_2_1 (by decide) h (fun h => ?_) (fun h => ?_)
  · refine zv_widen (c2 := 0) (s2 := 0) (by first | exact Nat.le_of_ble_eq_true rfl | omega | (dsimp only; omega)) (by first | exact Nat.le_of_ble_eq_true rfl | omega | (dsimp only; omega)) ?_
    exact kj_J5_copyOfRange_2_10 X  h
  · refine zv_iload_n X 2 dJ5_copyOfRange_2_4 rfl ?_
    refine zv_aload_n X 0 dJ5_copyOfRange_2_5 rfl ?_
    refine zv_alen X dJ5_copyOfRange_2_6 h (fun v6 h => ?_)
    refine zv_icmp_eq X (tgt := 17) dJ5_copyOfRange_2_7 (by decide) h (fun h => ?_) (fun h => ?_)
    · refine zv_aload_n X 0 dJ5_copyOfRange_2_17 rfl ?_
      exact h.elim
    · refine zv_widen (c2 := 0) (s2 := 0) (by first | exact Nat.le_of_ble_eq_true rfl | omega | (dsimp only; omega)) (by first | exact Nat.le_of_ble_eq_true rfl | omega | (dsimp only; omega)) ?_
      exact kj_J5_copyOfRange_2_10 X  h
theorem kj_J9_init_2_79 {p : Program} {l : Launch} {e : Env} {s : State} {m : MethodId} {args : Array Value} {below : List Frame} {meth : Method} {c : Code} {D : zk_G} {g : zk_M} {b0 : Nat} (X : zk_X p s m args meth c D g b0 cJ9_init_2 5 "java/lang/String" "<init>" none) {post : zk_H → Prop}  {a0 : Option Nat} {a3 : Option Nat} {a4 : Int32} {P : zk_H}    (hh : wj_J9_init_2_79 post a0 a3 a4 P) : zV p l e ({ frames := 3, cells := 1, slots := 8, locals := 86 } : Room) s m args below meth c D b0 5 (0) (0) (MQ below (va_Qv post (zk_B D b0) (zk_A b0)) args s 1 8 (zk_A b0)) P 79 [(0, va_rf (a0)), (3, va_rf (a3)), (4, .int (a4))] [] := by
  have h := hh
  unfold wj_J9_init_2_79 at h
  refine zv_aload_n X 0 dJ9_init_2_79 rfl ?_
  refine zv_iconst X (v := 1) dJ9_init_2_80 rfl ?_
  refine zv_put_n X fp_q908 (fun _ => rfl) dJ9_init_2_81 h (fun P81 h => ?_)
  refine zv_aload_n X 0 dJ9_init_2_84 rfl ?_
  refine zv_aload_n X 1 dJ9_init_2_85 rfl ?_
  refine zv_iconst X (v := 0) dJ9_init_2_86 rfl ?_
  refine zv_iload X 2 dJ9_init_2_87 rfl ?_
  refine zv_iconst X (v := 1) dJ9_init_2_89 rfl ?_
  refine zv_ishl X dJ9_init_2_90 ?_
  refine zv_cq ((zr_S X (As := [va_rf (a3), .int (0), .int (a4 <<< (1 &&& 31))]) (rest := [va_rf (a0)]) (wk_J5_copyOfRange_2 l h) (va_cwS 3 X.hts (lw_S q884 q885 q109 q886) rfl rfl rfl md_J5_copyOfRange_2 ⟨Nat.le_of_ble_eq_true rfl, Nat.le_of_ble_eq_true rfl⟩) rfl rfl (zk_rs (Nat.le_of_ble_eq_true rfl)) dJ9_init_2_91 ⟨by first | exact Nat.le_of_ble_eq_true rfl | omega | (dsimp only; omega), by first | exact Nat.le_of_ble_eq_true rfl | omega | (dsimp only; omega)⟩)) (fun v91 P91 h => ?_)
  refine zv_put_r X fp_q907 (zk_tyA _) (fun _ => rfl) dJ9_init_2_94 h (fun P94 h => ?_)
  exact zv_vret X rfl (by first | exact Nat.le_of_ble_eq_true rfl | omega | (dsimp only; omega)) (by first | exact Nat.le_of_ble_eq_true rfl | omega | (dsimp only; omega)) dJ9_init_2_97 h
theorem md_J9_init_2 : yJ9_init_2.cls ≠ "java/lang/invoke/MethodHandle" ∧ yJ9_init_2.cls ≠ "java/lang/invoke/VarHandle" ∧ (parseMethodDescriptor yJ9_init_2.desc).map (fun d => d.parameters.length) = some 2 := by decide +kernel
theorem wk_J9_init_2 (l : Launch) {D : zk_G} {g : zk_M} {b0 : Nat} {post : zk_H → Prop} {this : Nat} {x1 : Option Nat} {x2 : Option Nat} {P : zk_H} (hh : wp_J9_init_2 post this x1 x2 P) : Met l yJ9_init_2 (ws_ yJ9_init_2 cJ9_init_2 5 none) ({ frames := 3, cells := 1, slots := 8, locals := 86 } : Room) (va_Pc [.ref this, va_rf (x1), va_rf (x2)] (zk_pre D g b0 P)) (va_Qv post (zk_B D b0) (zk_A b0)) 1 8 (zk_A b0) := by
  refine zk_enter "java/lang/String" "<init>" rfl rfl (plainFor_of_name (by decide)) [.ref this, va_rf (x1), va_rf (x2)] (by cases x1 <;> cases x2 <;> exact Nat.le_of_ble_eq_true rfl) ?_
  intro p e s m args below meth c X
  refine zk_at0 (L' := [(0, va_rf (some this)), (1, va_rf (x1)), (2, va_rf (x2))]) (by cases x1 <;> cases x2 <;> rfl) ?_
  have h := hh
  unfold wp_J9_init_2 at h
  refine zv_aload_n X 0 dJ9_init_2_0 rfl ?_
  refine zv_objInit X q876 dJ9_init_2_1 (by decide) (by decide) (by decide) ?_
  refine zv_aload_n X 1 dJ9_init_2_4 rfl ?_
  refine zv_cqR ((zr_Ul X (As := []) (rest := []) h (fun a h => wk_J7_getValue l h) (zk_l1 ⟨_, rfl, _, va_cwU 0 X.hts (zk_wsU q877 q879 q880 q878 q116 q881) rfl rfl rfl rfl md_J7_getValue ⟨Nat.le_of_ble_eq_true rfl, Nat.le_of_ble_eq_true rfl⟩⟩) rfl rfl (zk_rs (Nat.le_of_ble_eq_true rfl)) dJ9_init_2_5 ⟨by first | exact Nat.le_of_ble_eq_true rfl | omega | (dsimp only; omega), by first | exact Nat.le_of_ble_eq_true rfl | omega | (dsimp only; omega)⟩)) (fun v5 h => ?_)
  refine zv_astore_n X (i := 3) (L' := [(3, va_rf (v5)), (0, va_rf (some this)), (1, va_rf (x1)), (2, va_rf (x2))]) dJ9_init_2_8 rfl (by decide) (by simp [zk_s1, zk_s2, zk_rc, zk_ic, zk_jc]) ?_
  refine zv_aload_n X 2 dJ9_init_2_9 rfl ?_
  refine zv_ciR ((zr_Ul X (As := []) (rest := []) h (fun a h => wk_J8_length l h) (zk_l1 ⟨_, rfl, _, va_cwO 0 X.hts (zk_wsO q882 q2593 q786 q2598 q782 q117 q784) rfl rfl rfl q787 ⟨by decide, by decide, md_J8_length.2.2⟩ ⟨Nat.le_of_ble_eq_true rfl, Nat.le_of_ble_eq_true rfl⟩⟩) rfl rfl (zk_rs (Nat.le_of_ble_eq_true rfl)) dJ9_init_2_10 ⟨by first | exact Nat.le_of_ble_eq_true rfl | omega | (dsimp only; omega), by first | exact Nat.le_of_ble_eq_true rfl | omega | (dsimp only; omega)⟩)) (fun v10 h => ?_)
  refine zv_istore X (L' := [(4, .int (v10)), (3, va_rf (v5)), (0, va_rf (some this)), (1, va_rf (x1)), (2, va_rf (x2))]) dJ9_init_2_13 (by decide) (by simp [zk_s1, zk_s2, zk_rc, zk_ic, zk_jc]) ?_
  refine zv_aload_n X 3 dJ9_init_2_15 rfl ?_
  refine zv_ciR ((zr_Ul X (As := []) (rest := []) h (fun a h => wk_J7_isLatin1 l h) (zk_l1 ⟨_, rfl, _, va_cwU 0 X.hts (zk_wsU q883 q815 q816 q814 q116 q817) rfl rfl rfl rfl md_J7_isLatin1 ⟨Nat.le_of_ble_eq_true rfl, Nat.le_of_ble_eq_true rfl⟩⟩) rfl rfl (zk_rs (Nat.le_of_ble_eq_true rfl)) dJ9_init_2_16 ⟨by first | exact Nat.le_of_ble_eq_true rfl | omega | (dsimp only; omega), by first | exact Nat.le_of_ble_eq_true rfl | omega | (dsimp only; omega)⟩)) (fun v16 h => ?_)
  refine zv_if_eq X (tgt := 41) dJ9_init_2_19 (by decide) h (fun h => ?_) (fun h => ?_)
  · refine zv_gets X (i := 1) rfl q893 rfl dJ9_init_2_41 ?_
    refine zv_if_eq X (tgt := 79) dJ9_init_2_44 (by decide) h (fun h => ?_) (fun h => ?_)
    · refine zv_sub (L' := [(0, va_rf (some this)), (3, va_rf (v5)), (4, .int (v10))]) [2, 1, 0] rfl ?_
      refine zv_widen (c2 := 0) (s2 := 0) (by first | exact Nat.le_of_ble_eq_true rfl | omega | (dsimp only; omega)) (by first | exact Nat.le_of_ble_eq_true rfl | omega | (dsimp only; omega)) ?_
      exact kj_J9_init_2_79 X  h
    · refine zv_aload_n X 3 dJ9_init_2_47 rfl ?_
      refine zv_getf_i X fo_q770 dJ9_init_2_48 h (fun v48 h => ?_)
      refine zv_if_eq X (tgt := 79) dJ9_init_2_51 (by decide) h (fun h => ?_) (fun h => ?_)
      · refine zv_sub (L' := [(0, va_rf (some this)), (3, va_rf (v5)), (4, .int (v10))]) [2, 1, 0] rfl ?_
        refine zv_widen (c2 := 0) (s2 := 0) (by first | exact Nat.le_of_ble_eq_true rfl | omega | (dsimp only; omega)) (by first | exact Nat.le_of_ble_eq_true rfl | omega | (dsimp only; omega)) ?_
        exact kj_J9_init_2_79 X  h
      · refine zv_aload_n X 2 dJ9_init_2_54 rfl ?_
        refine zv_aload_n X 1 dJ9_init_2_55 rfl ?_
        refine zv_iconst X (v := 0) dJ9_init_2_56 rfl ?_
        refine zv_iload X 0 dJ9_init_2_57 rfl ?_
        exact h.elim
  · refine zv_aload_n X 2 dJ9_init_2_22 rfl ?_
    refine zv_iconst X (v := 0) dJ9_init_2_23 rfl ?_
    refine zv_put_n X fp_q908 (fun _ => rfl) dJ9_init_2_24 h (fun P24 h => ?_)
    refine zv_aload_n X 2 dJ9_init_2_27 rfl ?_
    refine zv_aload_n X 1 dJ9_init_2_28 rfl ?_
    refine zv_iconst X (v := 0) dJ9_init_2_29 rfl ?_
    refine zv_iload X 0 dJ9_init_2_30 rfl ?_
    refine zv_cq ((zr_S X (As := [va_rf (v5), .int (0), .int (v10)]) (rest := [va_rf (some this)]) (wk_J5_copyOfRange_2 l h) (va_cwS 3 X.hts (lw_S q884 q885 q109 q886) rfl rfl rfl md_J5_copyOfRange_2 ⟨Nat.le_of_ble_eq_true rfl, Nat.le_of_ble_eq_true rfl⟩) rfl rfl (zk_rs (Nat.le_of_ble_eq_true rfl)) dJ9_init_2_32 ⟨by first | exact Nat.le_of_ble_eq_true rfl | omega | (dsimp only; omega), by first | exact Nat.le_of_ble_eq_true rfl | omega | (dsimp only; omega)⟩)) (fun v32 P32 h => ?_)
    refine zv_put_r X fp_q907 (zk_tyA _) (fun _ => rfl) dJ9_init_2_35 h (fun P35 h => ?_)
    refine zv_goto X (tgt := 97) dJ9_init_2_38 (by decide) ?_
    exact zv_vret X rfl (by first | exact Nat.le_of_ble_eq_true rfl | omega | (dsimp only; omega)) (by first | exact Nat.le_of_ble_eq_true rfl | omega | (dsimp only; omega)) dJ9_init_2_97 h
theorem md_J9_init : yJ9_init.cls ≠ "java/lang/invoke/MethodHandle" ∧ yJ9_init.cls ≠ "java/lang/invoke/VarHandle" ∧ (parseMethodDescriptor yJ9_init.desc).map (fun d => d.parameters.length) = some 1 := by decide +kernel
theorem wk_J9_init (l : Launch) {D : zk_G} {g : zk_M} {b0 : Nat} {post : zk_H → Prop} {this : Nat} {x1 : Option Nat} {P : zk_H} (hh : wp_J9_init post this x1 P) : Met l yJ9_init (ws_ yJ9_init cJ9_init 2 none) ({ frames := 4, cells := 1, slots := 8, locals := 110 } : Room) (va_Pc [.ref this, va_rf (x1)] (zk_pre D g b0 P)) (va_Qv post (zk_B D b0) (zk_A b0)) 1 8 (zk_A b0) := by
  refine zk_enter "java/lang/String" "<init>" rfl rfl (plainFor_of_name (by decide)) [.ref this, va_rf (x1)] (by cases x1 <;> exact Nat.le_of_ble_eq_true rfl) ?_
  intro p e s m args below meth c X
  refine zk_at0 (L' := [(0, va_rf (some this)), (1, va_rf (x1))]) (by cases x1 <;> rfl) ?_
  have h := hh
  unfold wp_J9_init at h
  refine zv_aload_n X 0 dJ9_init_0 rfl ?_
  refine zv_aload_n X 1 dJ9_init_1 rfl ?_
  refine zv_null X dJ9_init_2 ?_
  refine zv_cv ((zr_I X (As := [va_rf (x1), va_rf (none)]) (rest := []) (wk_J9_init_2 l h) (cwI 2 X.hts (lw_meth q875) rfl rfl rfl (X.w q118) (X.w q873) (X.w q874) rfl md_J9_init_2 ⟨Nat.le_of_ble_eq_true rfl, Nat.le_of_ble_eq_true rfl⟩) rfl rfl (zk_rs (Nat.le_of_ble_eq_true rfl)) dJ9_init_3 ⟨by first | exact Nat.le_of_ble_eq_true rfl | omega | (dsimp only; omega), by first | exact Nat.le_of_ble_eq_true rfl | omega | (dsimp only; omega)⟩)) (fun P3 h => ?_)
  exact zv_vret X rfl (by first | exact Nat.le_of_ble_eq_true rfl | omega | (dsimp only; omega)) (by first | exact Nat.le_of_ble_eq_true rfl | omega | (dsimp only; omega)) dJ9_init_6 h
theorem md_J8_toString : yJ8_toString.cls ≠ "java/lang/invoke/MethodHandle" ∧ yJ8_toString.cls ≠ "java/lang/invoke/VarHandle" ∧ (parseMethodDescriptor yJ8_toString.desc).map (fun d => d.parameters.length) = some 0 := by decide +kernel
theorem wk_J8_toString (l : Launch) {D : zk_G} {g : zk_M} {b0 : Nat} {post : Option Nat → zk_H → Prop} {this : Nat} {P : zk_H} (hh : wp_J8_toString post this P) : Met l yJ8_toString (ws_ yJ8_toString cJ8_toString 1 (some (Jvm.ClassFile.FieldType.object "java/lang/String"))) ({ frames := 5, cells := 2, slots := 12, locals := 131 } : Room) (va_Pc [.ref this] (zk_pre D g b0 P)) (va_Qq post (zk_B D b0) (zk_A b0)) 2 12 (zk_A b0) := by
  refine zk_enter "java/lang/StringBuilder" "toString" rfl rfl (plainFor_of_name (by decide)) [.ref this] (Nat.le_of_ble_eq_true rfl) ?_
  intro p e s m args below meth c X
  refine zk_at0 (L' := [(0, va_rf (some this))]) (rfl) ?_
  have h := hh
  unfold wp_J8_toString at h
  refine zv_new X zk_nc15 q868 (by first | exact Nat.le_of_ble_eq_true rfl | omega | (dsimp only; omega)) (by first | exact Nat.le_of_ble_eq_true rfl | omega | (dsimp only; omega)) dJ8_toString_0 h (fun v0 P0 h => ?_)
  refine zv_dup X dJ8_toString_3 (zk_rc _) ?_
  refine zv_aload_n X 0 dJ8_toString_4 rfl ?_
  refine zv_cv ((zr_I X (As := [va_rf (some this)]) (rest := [va_rf (some v0)]) (wk_J9_init l h) (cwI 1 X.hts (lw_meth q872) rfl rfl rfl (X.w q118) (X.w q870) (X.w q871) rfl md_J9_init ⟨Nat.le_of_ble_eq_true rfl, Nat.le_of_ble_eq_true rfl⟩) rfl rfl (zk_rs (Nat.le_of_ble_eq_true rfl)) dJ8_toString_5 ⟨by first | exact Nat.le_of_ble_eq_true rfl | omega | (dsimp only; omega), by first | exact Nat.le_of_ble_eq_true rfl | omega | (dsimp only; omega)⟩)) (fun P5 h => ?_)
  exact zv_aret X rfl (Or.inl ⟨_, rfl⟩) (by first | exact Nat.le_of_ble_eq_true rfl | omega | (dsimp only; omega)) (by first | exact Nat.le_of_ble_eq_true rfl | omega | (dsimp only; omega)) dJ8_toString_8 h
theorem md_J22_equals : yJ22_equals.cls ≠ "java/lang/invoke/MethodHandle" ∧ yJ22_equals.cls ≠ "java/lang/invoke/VarHandle" ∧ (parseMethodDescriptor yJ22_equals.desc).map (fun d => d.parameters.length) = some 1 := by decide +kernel
theorem wk_J22_equals (l : Launch) {D : zk_G} {g : zk_M} {b0 : Nat} {post : Int32 → Prop} {this : Nat} {x1 : Option Nat} {P : zk_H} (hh : wp_J22_equals post this x1) : Met l yJ22_equals (ws_ yJ22_equals cJ22_equals 2 (some Jvm.ClassFile.FieldType.boolean)) ({ frames := 0, cells := 0, slots := 0, locals := 0 } : Room) (va_Pc [.ref this, va_rf (x1)] (zk_pre D g b0 P)) (va_Qi (fun r u => post r ∧ u = P) (zk_B D b0) (zk_A b0)) 0 0 (zk_A b0) := by
  refine zk_enter "java/lang/Object" "equals" rfl rfl (by decide +kernel) [.ref this, va_rf (x1)] (by cases x1 <;> exact Nat.le_of_ble_eq_true rfl) ?_
  intro p e s m args below meth c X
  refine zk_at0 (L' := [(0, va_rf (some this)), (1, va_rf (x1))]) (by cases x1 <;> rfl) ?_
  have h := hh
  unfold wp_J22_equals at h
  refine zv_aload_n X 0 dJ22_equals_0 rfl ?_
  refine zv_aload_n X 1 dJ22_equals_1 rfl ?_
  refine zv_acmp_ne X (tgt := 9) dJ22_equals_2 (by decide) h (fun h => ?_) (fun h => ?_)
  · refine zv_iconst X (v := 0) dJ22_equals_9 rfl ?_
    exact zv_zret X (ty := .boolean) rfl (by first | exact Nat.le_of_ble_eq_true rfl | omega | (dsimp only; omega)) (by first | exact Nat.le_of_ble_eq_true rfl | omega | (dsimp only; omega)) dJ22_equals_10 ⟨rfl, ⟨h, rfl⟩⟩
  · refine zv_iconst X (v := 1) dJ22_equals_5 rfl ?_
    refine zv_goto X (tgt := 10) dJ22_equals_6 (by decide) ?_
    exact zv_zret X (ty := .boolean) rfl (by first | exact Nat.le_of_ble_eq_true rfl | omega | (dsimp only; omega)) (by first | exact Nat.le_of_ble_eq_true rfl | omega | (dsimp only; omega)) dJ22_equals_10 ⟨rfl, ⟨h, rfl⟩⟩
theorem kb_J2_indexOfRange_13 {p : Program} {l : Launch} {e : Env} {s : State} {m : MethodId} {args : Array Value} {below : List Frame} {meth : Method} {c : Code} {D : zk_G} {g : zk_M} {b0 : Nat} (X : zk_X p s m args meth c D g b0 cJ2_indexOfRange 6 "java/util/ArrayList" "indexOfRange" (some Jvm.ClassFile.FieldType.int)) {post : Int32 → Prop}  {K13 : Int32 → Prop} {a3 : Int32} {a4 : Option Nat} {a5 : Int32} {P : zk_H}   (hK13 : ∀ (u5 : Int32), K13 u5 → zV p l e ({ frames := 2, cells := 0, slots := 0, locals := 44 } : Room) s m args below meth c D b0 6 (0) (0) (MQ below (va_Qi (fun r u => post r ∧ u = P) (zk_B D b0) (zk_A b0)) args s 0 0 (zk_A b0)) P 13 [(3, .int (a3)), (4, va_rf (a4)), (5, .int (u5))] [])  (hh : wb_J2_indexOfRange_13 post a3 a4 P K13 a5) : zV p l e ({ frames := 2, cells := 0, slots := 0, locals := 44 } : Room) s m args below meth c D b0 6 (0) (0) (MQ below (va_Qi (fun r u => post r ∧ u = P) (zk_B D b0) (zk_A b0)) args s 0 0 (zk_A b0)) P 13 [(3, .int (a3)), (4, va_rf (a4)), (5, .int (a5))] [] := by
  have h := hh
  unfold wb_J2_indexOfRange_13 at h
  refine zv_iload X 2 dJ2_indexOfRange_13 rfl ?_
  refine zv_iload_n X 0 dJ2_indexOfRange_15 rfl ?_
  refine zv_icmp_ge X (tgt := 36) dJ2_indexOfRange_16 (by decide) h (fun h => ?_) (fun h => ?_)
  · refine zv_goto X (tgt := 69) dJ2_indexOfRange_36 (by decide) ?_
    refine zv_iconst X (v := -1) dJ2_indexOfRange_69 rfl ?_
    exact zv_iret X rfl (by first | exact Nat.le_of_ble_eq_true rfl | omega | (dsimp only; omega)) (by first | exact Nat.le_of_ble_eq_true rfl | omega | (dsimp only; omega)) dJ2_indexOfRange_70 ⟨h, rfl⟩
  · refine zv_aload X 1 dJ2_indexOfRange_19 rfl ?_
    refine zv_iload X 2 dJ2_indexOfRange_21 rfl ?_
    refine zv_aald X dJ2_indexOfRange_23 h (fun v23 h => ?_)
    refine zv_ifnonnull X (tgt := 30) dJ2_indexOfRange_24 (by decide) h (fun h => ?_) (fun h => ?_)
    · obtain ⟨v30, e30, h⟩ := zt_e h
      refine zv_iinc X (v := v30) (L' := [(5, .int (v30)), (3, .int (a3)), (4, va_rf (a4))]) 2 dJ2_indexOfRange_30 rfl e30 (by decide) (by simp [zk_s1, zk_rc, zk_ic, zk_jc]) ?_
      refine zv_goto X (tgt := 13) dJ2_indexOfRange_33 (by decide) ?_
      refine zv_sub (L' := [(3, .int (a3)), (4, va_rf (a4)), (5, .int (v30))]) [1, 2, 0] rfl ?_
      exact hK13 _ h
    · refine zv_iload X 2 dJ2_indexOfRange_27 rfl ?_
      exact zv_iret X rfl (by first | exact Nat.le_of_ble_eq_true rfl | omega | (dsimp only; omega)) (by first | exact Nat.le_of_ble_eq_true rfl | omega | (dsimp only; omega)) dJ2_indexOfRange_29 ⟨h, rfl⟩
theorem kl_J2_indexOfRange_13 {p : Program} {l : Launch} {e : Env} {s : State} {m : MethodId} {args : Array Value} {below : List Frame} {meth : Method} {c : Code} {D : zk_G} {g : zk_M} {b0 : Nat} (X : zk_X p s m args meth c D g b0 cJ2_indexOfRange 6 "java/util/ArrayList" "indexOfRange" (some Jvm.ClassFile.FieldType.int)) {post : Int32 → Prop}  {a3 : Int32} {a4 : Option Nat} {P : zk_H}   : ∀ (n : Nat) (a5 : Int32), wl_J2_indexOfRange_13 post a3 a4 P n a5 → zV p l e ({ frames := 2, cells := 0, slots := 0, locals := 44 } : Room) s m args below meth c D b0 6 (0) (0) (MQ below (va_Qi (fun r u => post r ∧ u = P) (zk_B D b0) (zk_A b0)) args s 0 0 (zk_A b0)) P 13 [(3, .int (a3)), (4, va_rf (a4)), (5, .int (a5))] [] := by
  intro n
  induction n with
  | zero => intro _ h; exact h.elim
  | succ n ih =>
    intro a5 h
    exact kb_J2_indexOfRange_13 X  (fun u0 h => ih _ h)  h
theorem kb_J2_indexOfRange_42 {p : Program} {l : Launch} {e : Env} {s : State} {m : MethodId} {args : Array Value} {below : List Frame} {meth : Method} {c : Code} {D : zk_G} {g : zk_M} {b0 : Nat} (X : zk_X p s m args meth c D g b0 cJ2_indexOfRange 6 "java/util/ArrayList" "indexOfRange" (some Jvm.ClassFile.FieldType.int)) {post : Int32 → Prop}  {K42 : Int32 → Prop} {a1 : Option Nat} {a3 : Int32} {a4 : Option Nat} {a5 : Int32} {P : zk_H}   (hK42 : ∀ (u5 : Int32), K42 u5 → zV p l e ({ frames := 2, cells := 0, slots := 0, locals := 44 } : Room) s m args below meth c D b0 6 (0) (0) (MQ below (va_Qi (fun r u => post r ∧ u = P) (zk_B D b0) (zk_A b0)) args s 0 0 (zk_A b0)) P 42 [(1, va_rf (a1)), (3, .int (a3)), (4, va_rf (a4)), (5, .int (u5))] [])  (hh : wb_J2_indexOfRange_42 post a1 a3 a4 P K42 a5) : zV p l e ({ frames := 2, cells := 0, slots := 0, locals := 44 } : Room) s m args below meth c D b0 6 (0) (0) (MQ below (va_Qi (fun r u => post r ∧ u = P) (zk_B D b0) (zk_A b0)) args s 0 0 (zk_A b0)) P 42 [(1, va_rf (a1)), (3, .int (a3)), (4, va_rf (a4)), (5, .int (a5))] [] := by
  have h := hh
  unfold wb_J2_indexOfRange_42 at h
  refine zv_iload X 3 dJ2_indexOfRange_42 rfl ?_
  refine zv_iload_n X 1 dJ2_indexOfRange_44 rfl ?_
  refine zv_icmp_ge X (tgt := 69) dJ2_indexOfRange_45 (by decide) h (fun h => ?_) (fun h => ?_)
  · refine zv_iconst X (v := -1) dJ2_indexOfRange_69 rfl ?_
    exact zv_iret X rfl (by first | exact Nat.le_of_ble_eq_true rfl | omega | (dsimp only; omega)) (by first | exact Nat.le_of_ble_eq_true rfl | omega | (dsimp only; omega)) dJ2_indexOfRange_70 ⟨h, rfl⟩
  · refine zv_aload_n X 0 dJ2_indexOfRange_48 rfl ?_
    refine zv_aload X 2 dJ2_indexOfRange_49 rfl ?_
    refine zv_iload X 3 dJ2_indexOfRange_51 rfl ?_
    refine zv_aald X dJ2_indexOfRange_53 h (fun v53 h => ?_)
    have hk : ∀ (v54 : Int32), (zi (v54 = 0) (zt (a5 + 1) (fun v63 => K42 v63)) (post a5)) → zV p l e ({ frames := 2, cells := 0, slots := 0, locals := 44 } : Room) s m args below meth c D b0 6 (0) (0) (MQ below (va_Qi (fun r u => post r ∧ u = P) (zk_B D b0) (zk_A b0)) args s 0 0 (zk_A b0)) P 57 [(1, va_rf (a1)), (3, .int (a3)), (4, va_rf (a4)), (5, .int (a5))] [.int (v54)] := by
      intro v54 h
      refine zv_if_eq X (tgt := 63) dJ2_indexOfRange_57 (by decide) h (fun h => ?_) (fun h => ?_)
      · obtain ⟨v63, e63, h⟩ := zt_e h
        refine zv_iinc X (v := v63) (L' := [(5, .int (v63)), (1, va_rf (a1)), (3, .int (a3)), (4, va_rf (a4))]) 3 dJ2_indexOfRange_63 rfl e63 (by decide) (by simp [zk_s1, zk_rc, zk_ic, zk_jc]) ?_
        refine zv_goto X (tgt := 42) dJ2_indexOfRange_66 (by decide) ?_
        refine zv_sub (L' := [(1, va_rf (a1)), (3, .int (a3)), (4, va_rf (a4)), (5, .int (v63))]) [1, 2, 3, 0] rfl ?_
        exact hK42 _ h
      · refine zv_iload X 3 dJ2_indexOfRange_60 rfl ?_
        exact zv_iret X rfl (by first | exact Nat.le_of_ble_eq_true rfl | omega | (dsimp only; omega)) (by first | exact Nat.le_of_ble_eq_true rfl | omega | (dsimp only; omega)) dJ2_indexOfRange_62 ⟨h, rfl⟩
    rcases h with h | h
    · refine zv_ciR ((zr_Ul X (As := [va_rf (v53)]) (rest := []) h (fun a h => wk_J22_equals l h) (zk_l1 ⟨_, rfl, _, va_cwU 1 X.hts (zk_wsU q1135 q1137 q1142 q1136 q2615 q1160) rfl rfl rfl rfl md_J22_equals ⟨Nat.le_of_ble_eq_true rfl, Nat.le_of_ble_eq_true rfl⟩⟩) rfl rfl (zk_rs (Nat.le_of_ble_eq_true rfl)) dJ2_indexOfRange_54 ⟨by first | exact Nat.le_of_ble_eq_true rfl | omega | (dsimp only; omega), by first | exact Nat.le_of_ble_eq_true rfl | omega | (dsimp only; omega)⟩)) (fun v54 h => zv_widen (by first | exact Nat.le_of_ble_eq_true rfl | omega | (dsimp only; omega)) (by first | exact Nat.le_of_ble_eq_true rfl | omega | (dsimp only; omega)) (hk v54 h))
    · refine zv_ciR ((zr_Ul X (As := [va_rf (v53)]) (rest := []) h (fun a h => wk_J9_equals l h) (zk_l1 ⟨_, rfl, _, va_cwA 1 X.hts (zk_wsU q1135 q1137 q1157 q978 q118 q980) rfl rfl rfl (X.nw (zk_nwm q1134 rfl)) ⟨by decide, by decide, md_J9_equals.2.2⟩ ⟨Nat.le_of_ble_eq_true rfl, Nat.le_of_ble_eq_true rfl⟩⟩) rfl rfl (zk_rs (Nat.le_of_ble_eq_true rfl)) dJ2_indexOfRange_54 ⟨by first | exact Nat.le_of_ble_eq_true rfl | omega | (dsimp only; omega), by first | exact Nat.le_of_ble_eq_true rfl | omega | (dsimp only; omega)⟩)) (fun v54 h => zv_widen (by first | exact Nat.le_of_ble_eq_true rfl | omega | (dsimp only; omega)) (by first | exact Nat.le_of_ble_eq_true rfl | omega | (dsimp only; omega)) (hk v54 h))
theorem kl_J2_indexOfRange_42 {p : Program} {l : Launch} {e : Env} {s : State} {m : MethodId} {args : Array Value} {below : List Frame} {meth : Method} {c : Code} {D : zk_G} {g : zk_M} {b0 : Nat} (X : zk_X p s m args meth c D g b0 cJ2_indexOfRange 6 "java/util/ArrayList" "indexOfRange" (some Jvm.ClassFile.FieldType.int)) {post : Int32 → Prop}  {a1 : Option Nat} {a3 : Int32} {a4 : Option Nat} {P : zk_H}   : ∀ (n : Nat) (a5 : Int32), wl_J2_indexOfRange_42 post a1 a3 a4 P n a5 → zV p l e ({ frames := 2, cells := 0, slots := 0, locals := 44 } : Room) s m args below meth c D b0 6 (0) (0) (MQ below (va_Qi (fun r u => post r ∧ u = P) (zk_B D b0) (zk_A b0)) args s 0 0 (zk_A b0)) P 42 [(1, va_rf (a1)), (3, .int (a3)), (4, va_rf (a4)), (5, .int (a5))] [] := by
  intro n
  induction n with
  | zero => intro _ h; exact h.elim
  | succ n ih =>
    intro a5 h
    exact kb_J2_indexOfRange_42 X  (fun u0 h => ih _ h)  h
theorem md_J2_indexOfRange : yJ2_indexOfRange.cls ≠ "java/lang/invoke/MethodHandle" ∧ yJ2_indexOfRange.cls ≠ "java/lang/invoke/VarHandle" ∧ (parseMethodDescriptor yJ2_indexOfRange.desc).map (fun d => d.parameters.length) = some 3 := by decide +kernel
theorem wk_J2_indexOfRange (l : Launch) {D : zk_G} {g : zk_M} {b0 : Nat} {post : Int32 → Prop} {this : Nat} {x1 : Option Nat} {x2 : Int32} {x3 : Int32} {P : zk_H} (hh : wp_J2_indexOfRange post this x1 x2 x3 P) : Met l yJ2_indexOfRange (ws_ yJ2_indexOfRange cJ2_indexOfRange 6 (some Jvm.ClassFile.FieldType.int)) ({ frames := 2, cells := 0, slots := 0, locals := 44 } : Room) (va_Pc [.ref this, va_rf (x1), .int (x2), .int (x3)] (zk_pre D g b0 P)) (va_Qi (fun r u => post r ∧ u = P) (zk_B D b0) (zk_A b0)) 0 0 (zk_A b0) := by
  refine zk_enter "java/util/ArrayList" "indexOfRange" rfl rfl (plainFor_of_name (by decide)) [.ref this, va_rf (x1), .int (x2), .int (x3)] (by cases x1 <;> exact Nat.le_of_ble_eq_true rfl) ?_
  intro p e s m args below meth c X
  refine zk_at0 (L' := [(0, va_rf (some this)), (1, va_rf (x1)), (2, .int (x2)), (3, .int (x3))]) (by cases x1 <;> rfl) ?_
  have h := hh
  unfold wp_J2_indexOfRange at h
  refine zv_aload_n X 0 dJ2_indexOfRange_0 rfl ?_
  refine zv_getf_r X fo_q171 dJ2_indexOfRange_1 h (fun v1 h => ?_)
  refine zv_astore X (L' := [(4, va_rf (v1)), (0, va_rf (some this)), (1, va_rf (x1)), (2, .int (x2)), (3, .int (x3))]) dJ2_indexOfRange_4 (by decide) rfl ?_
  refine zv_aload_n X 2 dJ2_indexOfRange_6 rfl ?_
  refine zv_ifnonnull X (tgt := 39) dJ2_indexOfRange_7 (by decide) h (fun h => ?_) (fun h => ?_)
  · refine zv_iload_n X 3 dJ2_indexOfRange_39 rfl ?_
    refine zv_istore X (L' := [(5, .int (x2)), (4, va_rf (v1)), (0, va_rf (some this)), (1, va_rf (x1)), (2, .int (x2)), (3, .int (x3))]) dJ2_indexOfRange_40 (by decide) (by simp [zk_s1, zk_s2, zk_rc, zk_ic, zk_jc]) ?_
    refine zv_sub (L' := [(1, va_rf (x1)), (3, .int (x3)), (4, va_rf (v1)), (5, .int (x2))]) [3, 5, 1, 0] rfl ?_
    obtain ⟨n40, h⟩ := h
    exact kl_J2_indexOfRange_42 X  n40 _ h
  · refine zv_iload_n X 3 dJ2_indexOfRange_10 rfl ?_
    refine zv_istore X (L' := [(5, .int (x2)), (4, va_rf (v1)), (0, va_rf (some this)), (1, va_rf (x1)), (2, .int (x2)), (3, .int (x3))]) dJ2_indexOfRange_11 (by decide) (by simp [zk_s1, zk_s2, zk_rc, zk_ic, zk_jc]) ?_
    refine zv_sub (L' := [(3, .int (x3)), (4, va_rf (v1)), (5, .int (x2))]) [5, 1, 0] rfl ?_
    obtain ⟨n11, h⟩ := h
    exact kl_J2_indexOfRange_13 X  n11 _ h
theorem md_J2_indexOf : yJ2_indexOf.cls ≠ "java/lang/invoke/MethodHandle" ∧ yJ2_indexOf.cls ≠ "java/lang/invoke/VarHandle" ∧ (parseMethodDescriptor yJ2_indexOf.desc).map (fun d => d.parameters.length) = some 1 := by decide +kernel
theorem wk_J2_indexOf (l : Launch) {D : zk_G} {g : zk_M} {b0 : Nat} {post : Int32 → Prop} {this : Nat} {x1 : Option Nat} {P : zk_H} (hh : wp_J2_indexOf post this x1 P) : Met l yJ2_indexOf (ws_ yJ2_indexOf cJ2_indexOf 2 (some Jvm.ClassFile.FieldType.int)) ({ frames := 3, cells := 0, slots := 0, locals := 69 } : Room) (va_Pc [.ref this, va_rf (x1)] (zk_pre D g b0 P)) (va_Qi (fun r u => post r ∧ u = P) (zk_B D b0) (zk_A b0)) 0 0 (zk_A b0) := by
  refine zk_enter "java/util/ArrayList" "indexOf" rfl rfl (plainFor_of_name (by decide)) [.ref this, va_rf (x1)] (by cases x1 <;> exact Nat.le_of_ble_eq_true rfl) ?_
  intro p e s m args below meth c X
  refine zk_at0 (L' := [(0, va_rf (some this)), (1, va_rf (x1))]) (by cases x1 <;> rfl) ?_
  have h := hh
  unfold wp_J2_indexOf at h
  refine zv_aload_n X 0 dJ2_indexOf_0 rfl ?_
  refine zv_aload_n X 1 dJ2_indexOf_1 rfl ?_
  refine zv_iconst X (v := 0) dJ2_indexOf_2 rfl ?_
  refine zv_aload_n X 0 dJ2_indexOf_3 rfl ?_
  refine zv_getf_i X fo_q172 dJ2_indexOf_4 h (fun v4 h => ?_)
  refine zv_ciR ((zr_Vl X (As := [va_rf (x1), .int (0), .int (v4)]) (rest := []) h (fun a h => wk_J2_indexOfRange l h) (zk_l1 ⟨_, rfl, cwV 3 X.hts (lw_V q1130 q1131 q1132 q106 q1133) rfl rfl rfl ⟨rfl, md_J2_indexOfRange⟩ ⟨Nat.le_of_ble_eq_true rfl, Nat.le_of_ble_eq_true rfl⟩⟩) rfl rfl (zk_rs (Nat.le_of_ble_eq_true rfl)) dJ2_indexOf_7 ⟨by first | exact Nat.le_of_ble_eq_true rfl | omega | (dsimp only; omega), by first | exact Nat.le_of_ble_eq_true rfl | omega | (dsimp only; omega)⟩)) (fun v7 h => ?_)
  exact zv_iret X rfl (by first | exact Nat.le_of_ble_eq_true rfl | omega | (dsimp only; omega)) (by first | exact Nat.le_of_ble_eq_true rfl | omega | (dsimp only; omega)) dJ2_indexOf_10 ⟨h, rfl⟩
theorem md_J2_contains : yJ2_contains.cls ≠ "java/lang/invoke/MethodHandle" ∧ yJ2_contains.cls ≠ "java/lang/invoke/VarHandle" ∧ (parseMethodDescriptor yJ2_contains.desc).map (fun d => d.parameters.length) = some 1 := by decide +kernel
theorem wk_J2_contains (l : Launch) {D : zk_G} {g : zk_M} {b0 : Nat} {post : Int32 → Prop} {this : Nat} {x1 : Option Nat} {P : zk_H} (hh : wp_J2_contains post this x1 P) : Met l yJ2_contains (ws_ yJ2_contains cJ2_contains 2 (some Jvm.ClassFile.FieldType.boolean)) ({ frames := 4, cells := 0, slots := 0, locals := 90 } : Room) (va_Pc [.ref this, va_rf (x1)] (zk_pre D g b0 P)) (va_Qi (fun r u => post r ∧ u = P) (zk_B D b0) (zk_A b0)) 0 0 (zk_A b0) := by
  refine zk_enter "java/util/ArrayList" "contains" rfl rfl (plainFor_of_name (by decide)) [.ref this, va_rf (x1)] (by cases x1 <;> exact Nat.le_of_ble_eq_true rfl) ?_
  intro p e s m args below meth c X
  refine zk_at0 (L' := [(0, va_rf (some this)), (1, va_rf (x1))]) (by cases x1 <;> rfl) ?_
  have h := hh
  unfold wp_J2_contains at h
  refine zv_aload_n X 0 dJ2_contains_0 rfl ?_
  refine zv_aload_n X 1 dJ2_contains_1 rfl ?_
  refine zv_ciR ((zr_Vl X (As := [va_rf (x1)]) (rest := []) h (fun a h => wk_J2_indexOf l h) (zk_l1 ⟨_, rfl, cwV 1 X.hts (lw_V q1126 q1127 q1128 q106 q1129) rfl rfl rfl ⟨rfl, md_J2_indexOf⟩ ⟨Nat.le_of_ble_eq_true rfl, Nat.le_of_ble_eq_true rfl⟩⟩) rfl rfl (zk_rs (Nat.le_of_ble_eq_true rfl)) dJ2_contains_2 ⟨by first | exact Nat.le_of_ble_eq_true rfl | omega | (dsimp only; omega), by first | exact Nat.le_of_ble_eq_true rfl | omega | (dsimp only; omega)⟩)) (fun v2 h => ?_)
  refine zv_if_lt X (tgt := 12) dJ2_contains_5 (by decide) h (fun h => ?_) (fun h => ?_)
  · refine zv_iconst X (v := 0) dJ2_contains_12 rfl ?_
    exact zv_zret X (ty := .boolean) rfl (by first | exact Nat.le_of_ble_eq_true rfl | omega | (dsimp only; omega)) (by first | exact Nat.le_of_ble_eq_true rfl | omega | (dsimp only; omega)) dJ2_contains_13 ⟨rfl, ⟨h, rfl⟩⟩
  · refine zv_iconst X (v := 1) dJ2_contains_8 rfl ?_
    refine zv_goto X (tgt := 13) dJ2_contains_9 (by decide) ?_
    exact zv_zret X (ty := .boolean) rfl (by first | exact Nat.le_of_ble_eq_true rfl | omega | (dsimp only; omega)) (by first | exact Nat.le_of_ble_eq_true rfl | omega | (dsimp only; omega)) dJ2_contains_13 ⟨rfl, ⟨h, rfl⟩⟩
theorem md_J7_newCapacity : yJ7_newCapacity.cls ≠ "java/lang/invoke/MethodHandle" ∧ yJ7_newCapacity.cls ≠ "java/lang/invoke/VarHandle" ∧ (parseMethodDescriptor yJ7_newCapacity.desc).map (fun d => d.parameters.length) = some 1 := by decide +kernel
theorem wk_J7_newCapacity (l : Launch) {D : zk_G} {g : zk_M} {b0 : Nat} {post : Int32 → Prop} {this : Nat} {x1 : Int32} {P : zk_H} (hh : wp_J7_newCapacity post this x1 P) : Met l yJ7_newCapacity (ws_ yJ7_newCapacity cJ7_newCapacity 6 (some Jvm.ClassFile.FieldType.int)) ({ frames := 2, cells := 0, slots := 0, locals := 44 } : Room) (va_Pc [.ref this, .int (x1)] (zk_pre D g b0 P)) (va_Qi (fun r u => post r ∧ u = P) (zk_B D b0) (zk_A b0)) 0 0 (zk_A b0) := by
  refine zk_enter "java/lang/AbstractStringBuilder" "newCapacity" rfl rfl (plainFor_of_name (by decide)) [.ref this, .int (x1)] (Nat.le_of_ble_eq_true rfl) ?_
  intro p e s m args below meth c X
  refine zk_at0 (L' := [(0, va_rf (some this)), (1, .int (x1))]) (rfl) ?_
  have h := hh
  unfold wp_J7_newCapacity at h
  refine zv_aload_n X 0 dJ7_newCapacity_0 rfl ?_
  refine zv_getf_r X fo_q768 dJ7_newCapacity_1 h (fun v1 h => ?_)
  refine zv_alen X dJ7_newCapacity_4 h (fun v4 h => ?_)
  refine zv_istore_n X (i := 2) (L' := [(2, .int (v4)), (0, va_rf (some this)), (1, .int (x1))]) dJ7_newCapacity_5 rfl (by decide) rfl ?_
  refine zv_iload_n X 2 dJ7_newCapacity_6 rfl ?_
  refine zv_aload_n X 1 dJ7_newCapacity_7 rfl ?_
  refine zv_getf_i X fo_q769 dJ7_newCapacity_8 h (fun v8 h => ?_)
  refine zv_ishl X dJ7_newCapacity_11 ?_
  refine zv_top_i h (fun v12 h => ?_)
  refine zv_istore_n X (i := 3) (L' := [(3, .int (v12)), (2, .int (v4)), (0, va_rf (some this)), (1, .int (x1))]) dJ7_newCapacity_12 rfl (by decide) rfl ?_
  refine zv_iload_n X 0 dJ7_newCapacity_13 rfl ?_
  refine zv_iload_n X 1 dJ7_newCapacity_14 rfl ?_
  refine zv_isub X dJ7_newCapacity_15 ?_
  refine zv_top_i h (fun v16 h => ?_)
  refine zv_istore X (L' := [(4, .int (v16)), (3, .int (v12)), (2, .int (v4)), (0, va_rf (some this)), (1, .int (x1))]) dJ7_newCapacity_16 (by decide) rfl ?_
  refine zv_iload_n X 2 dJ7_newCapacity_18 rfl ?_
  refine zv_iload X 0 dJ7_newCapacity_19 rfl ?_
  refine zv_iload_n X 2 dJ7_newCapacity_21 rfl ?_
  refine zv_iconst X (v := 2) dJ7_newCapacity_22 rfl ?_
  refine zv_aload_n X 3 dJ7_newCapacity_23 rfl ?_
  refine zv_getf_i X fo_q769 dJ7_newCapacity_24 h (fun v24 h => ?_)
  refine zv_ishl X dJ7_newCapacity_27 ?_
  refine zv_iadd X dJ7_newCapacity_28 ?_
  refine zv_ciR ((zr_S X (As := [.int (v4), .int (v16), .int (v4 + ((2 : Int32) <<< (v24 &&& 31)))]) (rest := []) (wk_J3_newLength l h) (va_cwS 3 X.hts (lw_S q803 q242 q107 q243) rfl rfl rfl md_J3_newLength ⟨Nat.le_of_ble_eq_true rfl, Nat.le_of_ble_eq_true rfl⟩) rfl rfl (zk_rs (Nat.le_of_ble_eq_true rfl)) dJ7_newCapacity_29 ⟨by first | exact Nat.le_of_ble_eq_true rfl | omega | (dsimp only; omega), by first | exact Nat.le_of_ble_eq_true rfl | omega | (dsimp only; omega)⟩)) (fun v29 h => ?_)
  refine zv_istore X (L' := [(5, .int (v29)), (4, .int (v16)), (3, .int (v12)), (2, .int (v4)), (0, va_rf (some this)), (1, .int (x1))]) dJ7_newCapacity_32 (by decide) rfl ?_
  refine zv_iload X 0 dJ7_newCapacity_34 rfl ?_
  refine zv_ldc X q804 dJ7_newCapacity_36 ?_
  refine zv_icmp_ne X (tgt := 51) dJ7_newCapacity_38 (by decide) h (fun h => ?_) (fun h => ?_)
  · refine zv_iload X 0 dJ7_newCapacity_51 rfl ?_
    refine zv_aload_n X 4 dJ7_newCapacity_53 rfl ?_
    refine zv_getf_i X fo_q769 dJ7_newCapacity_54 h (fun v54 h => ?_)
    refine zv_ishr X dJ7_newCapacity_57 ?_
    exact zv_iret X rfl (by first | exact Nat.le_of_ble_eq_true rfl | omega | (dsimp only; omega)) (by first | exact Nat.le_of_ble_eq_true rfl | omega | (dsimp only; omega)) dJ7_newCapacity_58 ⟨h, rfl⟩
  · exact h.elim
theorem md_J5_copyOf_4 : yJ5_copyOf_4.cls ≠ "java/lang/invoke/MethodHandle" ∧ yJ5_copyOf_4.cls ≠ "java/lang/invoke/VarHandle" ∧ (parseMethodDescriptor yJ5_copyOf_4.desc).map (fun d => d.parameters.length) = some 2 := by decide +kernel
theorem wk_J5_copyOf_4 (l : Launch) {D : zk_G} {g : zk_M} {b0 : Nat} {post : Option Nat → zk_H → Prop} {x0 : Option Nat} {x1 : Int32} {P : zk_H} {k0 n0 : Nat} (hh : wp_J5_copyOf_4 post x0 x1 P k0 n0) : Met l yJ5_copyOf_4 (ws_ yJ5_copyOf_4 cJ5_copyOf_4 3 (some (Jvm.ClassFile.FieldType.array Jvm.ClassFile.FieldType.byte))) ({ frames := 1, cells := k0, slots := n0, locals := 40 } : Room) (va_Pc [va_rf (x0), .int (x1)] (zk_pre D g b0 P)) (va_Qq post (zk_B D b0) (zk_A b0)) k0 n0 (zk_A b0) := by
  refine zk_enter "java/util/Arrays" "copyOf" rfl rfl (plainFor_of_name (by decide)) [va_rf (x0), .int (x1)] (by cases x0 <;> exact Nat.le_of_ble_eq_true rfl) ?_
  intro p e s m args below meth c X
  refine zk_at0 (L' := [(0, va_rf (x0)), (1, .int (x1))]) (by cases x0 <;> rfl) ?_
  have h := hh
  unfold wp_J5_copyOf_4 at h
  refine zv_iload_n X 1 dJ5_copyOf_4_0 rfl ?_
  refine zv_aload_n X 0 dJ5_copyOf_4_1 rfl ?_
  refine zv_alen X dJ5_copyOf_4_2 h (fun v2 h => ?_)
  refine zv_icmp_ne X (tgt := 14) dJ5_copyOf_4_3 (by decide) h (fun h => ?_) (fun h => ?_)
  · refine zv_iload_n X 1 dJ5_copyOf_4_14 rfl ?_
    obtain ⟨n15, f151, f152, f153, h⟩ := h
    refine zv_newa X (ty := .byte) rfl (by decide) (fun _ h => h) (fun _ => rfl) q352 (by show n15 * 1 ≤ _; omega) (by dsimp only; omega) (by dsimp only; omega) dJ5_copyOf_4_15 h (fun v15 P15 h => ?_)
    refine zv_astore_n X (i := 2) (L' := [(2, va_rf (some v15)), (0, va_rf (x0)), (1, .int (x1))]) dJ5_copyOf_4_17 rfl (by decide) rfl ?_
    refine zv_aload_n X 1 dJ5_copyOf_4_18 rfl ?_
    refine zv_iconst X (v := 0) dJ5_copyOf_4_19 rfl ?_
    refine zv_aload_n X 0 dJ5_copyOf_4_20 rfl ?_
    refine zv_iconst X (v := 0) dJ5_copyOf_4_21 rfl ?_
    refine zv_aload_n X 1 dJ5_copyOf_4_22 rfl ?_
    refine zv_alen X dJ5_copyOf_4_23 h (fun v23 h => ?_)
    refine zv_iload_n X 2 dJ5_copyOf_4_24 rfl ?_
    refine zv_mmin X q288 ⟨by first | decide | (dsimp only; decide), by first | decide | (dsimp only; decide)⟩ (zk_rs (Nat.le_of_ble_eq_true rfl)) (by first | exact Nat.le_of_ble_eq_true rfl | dsimp only; omega) (by first | exact Nat.le_of_ble_eq_true rfl | dsimp only; omega) dJ5_copyOf_4_25 ?_
    refine zv_copyB X q291 ⟨by first | decide | (dsimp only; decide), by first | decide | (dsimp only; decide)⟩ (zk_rs (Nat.le_of_ble_eq_true rfl)) dJ5_copyOf_4_28 h (fun P28 h => ?_)
    refine zv_aload_n X 0 dJ5_copyOf_4_31 rfl ?_
    exact zv_aret X rfl (Or.inr ⟨_, rfl⟩) (by omega) (by omega) dJ5_copyOf_4_32 h
  · refine zv_aload_n X 0 dJ5_copyOf_4_6 rfl ?_
    exact h.elim
theorem md_J7_ensureCapacityInternal : yJ7_ensureCapacityInternal.cls ≠ "java/lang/invoke/MethodHandle" ∧ yJ7_ensureCapacityInternal.cls ≠ "java/lang/invoke/VarHandle" ∧ (parseMethodDescriptor yJ7_ensureCapacityInternal.desc).map (fun d => d.parameters.length) = some 1 := by decide +kernel
theorem wk_J7_ensureCapacityInternal (l : Launch) {D : zk_G} {g : zk_M} {b0 : Nat} {post : zk_H → Prop} {this : Nat} {x1 : Int32} {P : zk_H} {k0 n0 : Nat} (hh : wp_J7_ensureCapacityInternal post this x1 P k0 n0) : Met l yJ7_ensureCapacityInternal (ws_ yJ7_ensureCapacityInternal cJ7_ensureCapacityInternal 3 none) ({ frames := 3, cells := k0, slots := n0, locals := 69 } : Room) (va_Pc [.ref this, .int (x1)] (zk_pre D g b0 P)) (va_Qv post (zk_B D b0) (zk_A b0)) k0 n0 (zk_A b0) := by
  refine zk_enter "java/lang/AbstractStringBuilder" "ensureCapacityInternal" rfl rfl (plainFor_of_name (by decide)) [.ref this, .int (x1)] (Nat.le_of_ble_eq_true rfl) ?_
  intro p e s m args below meth c X
  refine zk_at0 (L' := [(0, va_rf (some this)), (1, .int (x1))]) (rfl) ?_
  have h := hh
  unfold wp_J7_ensureCapacityInternal at h
  refine zv_aload_n X 0 dJ7_ensureCapacityInternal_0 rfl ?_
  refine zv_getf_r X fo_q768 dJ7_ensureCapacityInternal_1 h (fun v1 h => ?_)
  refine zv_alen X dJ7_ensureCapacityInternal_4 h (fun v4 h => ?_)
  refine zv_aload_n X 0 dJ7_ensureCapacityInternal_5 rfl ?_
  refine zv_getf_i X fo_q769 dJ7_ensureCapacityInternal_6 h (fun v6 h => ?_)
  refine zv_ishr X dJ7_ensureCapacityInternal_9 ?_
  refine zv_top_i h (fun v10 h => ?_)
  refine zv_istore_n X (i := 2) (L' := [(2, .int (v10)), (0, va_rf (some this)), (1, .int (x1))]) dJ7_ensureCapacityInternal_10 rfl (by decide) rfl ?_
  refine zv_iload_n X 2 dJ7_ensureCapacityInternal_11 rfl ?_
  refine zv_iload_n X 0 dJ7_ensureCapacityInternal_12 rfl ?_
  refine zv_isub X dJ7_ensureCapacityInternal_13 ?_
  refine zv_if_le X (tgt := 38) dJ7_ensureCapacityInternal_14 (by decide) h (fun h => ?_) (fun h => ?_)
  · exact zv_vret X rfl (by omega) (by omega) dJ7_ensureCapacityInternal_38 h
  · refine zv_aload_n X 1 dJ7_ensureCapacityInternal_17 rfl ?_
    refine zv_aload_n X 1 dJ7_ensureCapacityInternal_18 rfl ?_
    refine zv_getf_r X fo_q768 dJ7_ensureCapacityInternal_19 h (fun v19 h => ?_)
    refine zv_aload_n X 1 dJ7_ensureCapacityInternal_22 rfl ?_
    refine zv_iload_n X 2 dJ7_ensureCapacityInternal_23 rfl ?_
    refine zv_ciR ((zr_Ul X (As := [.int (x1)]) (rest := [va_rf (v19), va_rf (some this)]) h (fun a h => wk_J7_newCapacity l h) (zk_l1 ⟨_, rfl, _, zk_cwUP X 1 q799 q2596 (X.sx (i := 1) rfl) q801 q116 q802 md_J7_newCapacity ⟨Nat.le_of_ble_eq_true rfl, Nat.le_of_ble_eq_true rfl⟩⟩) rfl rfl (zk_rs (Nat.le_of_ble_eq_true rfl)) dJ7_ensureCapacityInternal_24 ⟨by dsimp only; omega, by dsimp only; omega⟩)) (fun v24 h => ?_)
    refine zv_aload_n X 1 dJ7_ensureCapacityInternal_27 rfl ?_
    refine zv_getf_i X fo_q769 dJ7_ensureCapacityInternal_28 h (fun v28 h => ?_)
    refine zv_ishl X dJ7_ensureCapacityInternal_31 ?_
    obtain ⟨k32, n32, f321, f322, h⟩ := h
    refine zv_cq ((zr_S X (As := [va_rf (v19), .int (v24 <<< (v28 &&& 31))]) (rest := [va_rf (some this)]) (wk_J5_copyOf_4 l h) (va_cwS 2 X.hts (lw_S q805 q806 q109 q807) rfl rfl rfl md_J5_copyOf_4 ⟨Nat.le_of_ble_eq_true rfl, Nat.le_of_ble_eq_true rfl⟩) rfl rfl (zk_rs (Nat.le_of_ble_eq_true rfl)) dJ7_ensureCapacityInternal_32 ⟨by dsimp only; omega, by dsimp only; omega⟩)) (fun v32 P32 h => ?_)
    refine zv_put_r X fp_q768 (zk_tyA _) (fun z => by cases z) dJ7_ensureCapacityInternal_35 h (fun P35 h => ?_)
    exact zv_vret X rfl (by omega) (by omega) dJ7_ensureCapacityInternal_38 h
theorem md_J11_canEncode : yJ11_canEncode.cls ≠ "java/lang/invoke/MethodHandle" ∧ yJ11_canEncode.cls ≠ "java/lang/invoke/VarHandle" ∧ (parseMethodDescriptor yJ11_canEncode.desc).map (fun d => d.parameters.length) = some 1 := by decide +kernel
theorem wk_J11_canEncode (l : Launch) {D : zk_G} {g : zk_M} {b0 : Nat} {post : Int32 → Prop} {x0 : Int32} {P : zk_H} (hh : wp_J11_canEncode post x0) : Met l yJ11_canEncode (ws_ yJ11_canEncode cJ11_canEncode 1 (some Jvm.ClassFile.FieldType.boolean)) ({ frames := 0, cells := 0, slots := 0, locals := 0 } : Room) (va_Pc [.int (x0)] (zk_pre D g b0 P)) (va_Qi (fun r u => post r ∧ u = P) (zk_B D b0) (zk_A b0)) 0 0 (zk_A b0) := by
  refine zk_enter "java/lang/StringLatin1" "canEncode" rfl rfl (plainFor_of_name (by decide)) [.int (x0)] (Nat.le_of_ble_eq_true rfl) ?_
  intro p e s m args below meth c X
  refine zk_at0 (L' := [(0, .int (x0))]) (rfl) ?_
  have h := hh
  unfold wp_J11_canEncode at h
  refine zv_iload_n X 0 dJ11_canEncode_0 rfl ?_
  refine zv_sipush X (v := 255) dJ11_canEncode_1 rfl ?_
  refine zv_icmp_gt X (tgt := 11) dJ11_canEncode_4 (by decide) h (fun h => ?_) (fun h => ?_)
  · refine zv_iconst X (v := 0) dJ11_canEncode_11 rfl ?_
    exact zv_zret X (ty := .boolean) rfl (by first | exact Nat.le_of_ble_eq_true rfl | omega | (dsimp only; omega)) (by first | exact Nat.le_of_ble_eq_true rfl | omega | (dsimp only; omega)) dJ11_canEncode_12 ⟨rfl, ⟨h, rfl⟩⟩
  · refine zv_iconst X (v := 1) dJ11_canEncode_7 rfl ?_
    refine zv_goto X (tgt := 12) dJ11_canEncode_8 (by decide) ?_
    exact zv_zret X (ty := .boolean) rfl (by first | exact Nat.le_of_ble_eq_true rfl | omega | (dsimp only; omega)) (by first | exact Nat.le_of_ble_eq_true rfl | omega | (dsimp only; omega)) dJ11_canEncode_12 ⟨rfl, ⟨h, rfl⟩⟩
theorem kj_J7_append_45 {p : Program} {l : Launch} {e : Env} {s : State} {m : MethodId} {args : Array Value} {below : List Frame} {meth : Method} {c : Code} {D : zk_G} {g : zk_M} {b0 : Nat} (X : zk_X p s m args meth c D g b0 cJ7_append 2 "java/lang/AbstractStringBuilder" "append" (some (Jvm.ClassFile.FieldType.object "java/lang/AbstractStringBuilder"))) {post : Option Nat → zk_H → Prop}  {a0 : Option Nat} {a1 : Int32} {P : zk_H} {k0 n0 k n c0 c1 : Nat}  (hc0 : c0 + k ≤ k0) (hc1 : c1 + n ≤ n0) (hh : wj_J7_append_45 post a0 a1 P k n) : zV p l e ({ frames := 4, cells := k0, slots := n0, locals := 91 } : Room) s m args below meth c D b0 2 (c0) (c1) (MQ below (va_Qq post (zk_B D b0) (zk_A b0)) args s k0 n0 (zk_A b0)) P 45 [(0, va_rf (a0)), (1, .int (a1))] [] := by
  have h := hh
  unfold wj_J7_append_45 at h
  refine zv_aload_n X 0 dJ7_append_45 rfl ?_
  refine zv_ciR ((zr_Ul X (As := []) (rest := []) h (fun a h => wk_J7_isLatin1 l h) (zk_l1 ⟨_, rfl, _, va_cwU 0 X.hts (zk_wsU q813 q815 q816 q814 q116 q817) rfl rfl rfl rfl md_J7_isLatin1 ⟨Nat.le_of_ble_eq_true rfl, Nat.le_of_ble_eq_true rfl⟩⟩) rfl rfl (zk_rs (Nat.le_of_ble_eq_true rfl)) dJ7_append_46 ⟨by dsimp only; omega, by dsimp only; omega⟩)) (fun v46 h => ?_)
  refine zv_if_eq X (tgt := 56) dJ7_append_49 (by decide) h (fun h => ?_) (fun h => ?_)
  · refine zv_aload_n X 0 dJ7_append_56 rfl ?_
    refine zv_getf_r X fo_q768 dJ7_append_57 h (fun v57 h => ?_)
    refine zv_aload_n X 0 dJ7_append_60 rfl ?_
    refine zv_dup X dJ7_append_61 (zk_rc _) ?_
    refine zv_getf_i X fo_q771 dJ7_append_62 h (fun v62 h => ?_)
    refine zv_dup_x1 X dJ7_append_65 rfl (zk_rc _) ?_
    refine zv_iconst X (v := 1) dJ7_append_66 rfl ?_
    refine zv_iadd X dJ7_append_67 ?_
    refine zv_put_i X fp_q771 (fun z => by cases z) dJ7_append_68 h (fun P68 h => ?_)
    refine zv_iload_n X 1 dJ7_append_71 rfl ?_
    exact h.elim
  · refine zv_aload_n X 0 dJ7_append_52 rfl ?_
    exact h.elim
theorem md_J7_append : yJ7_append.cls ≠ "java/lang/invoke/MethodHandle" ∧ yJ7_append.cls ≠ "java/lang/invoke/VarHandle" ∧ (parseMethodDescriptor yJ7_append.desc).map (fun d => d.parameters.length) = some 1 := by decide +kernel
theorem wk_J7_append (l : Launch) {D : zk_G} {g : zk_M} {b0 : Nat} {post : Option Nat → zk_H → Prop} {this : Nat} {x1 : Int32} {P : zk_H} {k0 n0 : Nat} (hh : wp_J7_append post this x1 P k0 n0) : Met l yJ7_append (ws_ yJ7_append cJ7_append 2 (some (Jvm.ClassFile.FieldType.object "java/lang/AbstractStringBuilder"))) ({ frames := 4, cells := k0, slots := n0, locals := 91 } : Room) (va_Pc [.ref this, .int (x1)] (zk_pre D g b0 P)) (va_Qq post (zk_B D b0) (zk_A b0)) k0 n0 (zk_A b0) := by
  refine zk_enter "java/lang/AbstractStringBuilder" "append" rfl rfl (plainFor_of_name (by decide)) [.ref this, .int (x1)] (Nat.le_of_ble_eq_true rfl) ?_
  intro p e s m args below meth c X
  refine zk_at0 (L' := [(0, va_rf (some this)), (1, .int (x1))]) (rfl) ?_
  have h := hh
  unfold wp_J7_append at h
  refine zv_aload_n X 0 dJ7_append_0 rfl ?_
  refine zv_aload_n X 0 dJ7_append_1 rfl ?_
  refine zv_getf_i X fo_q771 dJ7_append_2 h (fun v2 h => ?_)
  refine zv_iconst X (v := 1) dJ7_append_5 rfl ?_
  refine zv_iadd X dJ7_append_6 ?_
  obtain ⟨k7, n7, f71, f72, h⟩ := h
  refine zv_cv ((zr_Ul X (As := [.int (v2 + 1)]) (rest := []) h (fun a h => wk_J7_ensureCapacityInternal l h) (zk_l1 ⟨_, rfl, _, zk_cwUP X 1 q795 q2595 (X.sx (i := 0) rfl) q797 q116 q798 md_J7_ensureCapacityInternal ⟨Nat.le_of_ble_eq_true rfl, Nat.le_of_ble_eq_true rfl⟩⟩) rfl rfl (zk_rs (Nat.le_of_ble_eq_true rfl)) dJ7_append_7 ⟨by dsimp only; omega, by dsimp only; omega⟩)) (fun P7 h => ?_)
  refine zv_aload_n X 0 dJ7_append_10 rfl ?_
  refine zv_ciR ((zr_Ul X (As := []) (rest := []) h (fun a h => wk_J7_isLatin1 l h) (zk_l1 ⟨_, rfl, _, va_cwU 0 X.hts (zk_wsU q813 q815 q816 q814 q116 q817) rfl rfl rfl rfl md_J7_isLatin1 ⟨Nat.le_of_ble_eq_true rfl, Nat.le_of_ble_eq_true rfl⟩⟩) rfl rfl (zk_rs (Nat.le_of_ble_eq_true rfl)) dJ7_append_11 ⟨by dsimp only; omega, by dsimp only; omega⟩)) (fun v11 h => ?_)
  refine zv_if_eq X (tgt := 45) dJ7_append_14 (by decide) h (fun h => ?_) (fun h => ?_)
  · exact kj_J7_append_45 X  (by omega) (by omega) h
  · refine zv_iload_n X 1 dJ7_append_17 rfl ?_
    refine zv_ciR ((zr_S X (As := [.int (x1)]) (rest := []) (wk_J11_canEncode l h) (va_cwS 1 X.hts (lw_S q818 q819 q120 q820) rfl rfl rfl md_J11_canEncode ⟨Nat.le_of_ble_eq_true rfl, Nat.le_of_ble_eq_true rfl⟩) rfl rfl (zk_rs (Nat.le_of_ble_eq_true rfl)) dJ7_append_18 ⟨by dsimp only; omega, by dsimp only; omega⟩)) (fun v18 h => ?_)
    refine zv_if_eq X (tgt := 45) dJ7_append_21 (by decide) h (fun h => ?_) (fun h => ?_)
    · exact kj_J7_append_45 X  (by omega) (by omega) h
    · refine zv_aload_n X 0 dJ7_append_24 rfl ?_
      refine zv_getf_r X fo_q768 dJ7_append_25 h (fun v25 h => ?_)
      refine zv_aload_n X 0 dJ7_append_28 rfl ?_
      refine zv_dup X dJ7_append_29 (zk_rc _) ?_
      refine zv_getf_i X fo_q771 dJ7_append_30 h (fun v30 h => ?_)
      refine zv_dup_x1 X dJ7_append_33 rfl (zk_rc _) ?_
      refine zv_iconst X (v := 1) dJ7_append_34 rfl ?_
      refine zv_iadd X dJ7_append_35 ?_
      refine zv_put_i X fp_q771 (fun z => by cases z) dJ7_append_36 h (fun P36 h => ?_)
      refine zv_iload_n X 1 dJ7_append_39 rfl ?_
      refine zv_i2b X dJ7_append_40 ?_
      refine zv_bast X dJ7_append_41 h (fun P41 h => ?_)
      refine zv_goto X (tgt := 75) dJ7_append_42 (by decide) ?_
      refine zv_aload_n X 0 dJ7_append_75 rfl ?_
      exact zv_aret X rfl (Or.inl ⟨_, rfl⟩) (by omega) (by omega) dJ7_append_76 h
theorem md_J8_append : yJ8_append.cls ≠ "java/lang/invoke/MethodHandle" ∧ yJ8_append.cls ≠ "java/lang/invoke/VarHandle" ∧ (parseMethodDescriptor yJ8_append.desc).map (fun d => d.parameters.length) = some 1 := by decide +kernel
theorem wk_J8_append (l : Launch) {D : zk_G} {g : zk_M} {b0 : Nat} {post : Option Nat → zk_H → Prop} {this : Nat} {x1 : Int32} {P : zk_H} {k0 n0 : Nat} (hh : wp_J8_append post this x1 P k0 n0) : Met l yJ8_append (ws_ yJ8_append cJ8_append 2 (some (Jvm.ClassFile.FieldType.object "java/lang/StringBuilder"))) ({ frames := 5, cells := k0, slots := n0, locals := 112 } : Room) (va_Pc [.ref this, .int (x1)] (zk_pre D g b0 P)) (va_Qq post (zk_B D b0) (zk_A b0)) k0 n0 (zk_A b0) := by
  refine zk_enter "java/lang/StringBuilder" "append" rfl rfl (plainFor_of_name (by decide)) [.ref this, .int (x1)] (Nat.le_of_ble_eq_true rfl) ?_
  intro p e s m args below meth c X
  refine zk_at0 (L' := [(0, va_rf (some this)), (1, .int (x1))]) (rfl) ?_
  have h := hh
  unfold wp_J8_append at h
  refine zv_aload_n X 0 dJ8_append_0 rfl ?_
  refine zv_iload_n X 1 dJ8_append_1 rfl ?_
  obtain ⟨k2, n2, f21, f22, h⟩ := h
  refine zv_cq ((zr_P X (As := [.int (x1)]) (rest := []) h (fun a h => wk_J7_append l h) (va_cwSU 1 X.hts (zk_wsSU q792 q2594 q780 q793 q116 q794) rfl rfl rfl ⟨by decide, md_J7_append.2.2⟩ ⟨Nat.le_of_ble_eq_true rfl, Nat.le_of_ble_eq_true rfl⟩) rfl rfl (zk_rs (Nat.le_of_ble_eq_true rfl)) dJ8_append_2 ⟨by dsimp only; omega, by dsimp only; omega⟩)) (fun v2 P2 h => ?_)
  refine zv_pop X dJ8_append_5 (zk_rc _) ?_
  refine zv_aload_n X 0 dJ8_append_6 rfl ?_
  exact zv_aret X rfl (Or.inl ⟨_, rfl⟩) (by omega) (by omega) dJ8_append_7 h
theorem kj_J2_fastRemove_34 {p : Program} {l : Launch} {e : Env} {s : State} {m : MethodId} {args : Array Value} {below : List Frame} {meth : Method} {c : Code} {D : zk_G} {g : zk_M} {b0 : Nat} (X : zk_X p s m args meth c D g b0 cJ2_fastRemove 4 "java/util/ArrayList" "fastRemove" none) {post : zk_H → Prop}  {a0 : Option Nat} {a1 : Option Nat} {a3 : Int32} {P : zk_H}    (hh : wj_J2_fastRemove_34 post a0 a1 a3 P) : zV p l e ({ frames := 1, cells := 0, slots := 0, locals := 40 } : Room) s m args below meth c D b0 4 (0) (0) (MQ below (va_Qv post (zk_B D b0) (zk_A b0)) args s 0 0 (zk_A b0)) P 34 [(0, va_rf (a0)), (1, va_rf (a1)), (3, .int (a3))] [] := by
  have h := hh
  unfold wj_J2_fastRemove_34 at h
  refine zv_aload_n X 1 dJ2_fastRemove_34 rfl ?_
  refine zv_aload_n X 0 dJ2_fastRemove_35 rfl ?_
  refine zv_iload_n X 2 dJ2_fastRemove_36 rfl ?_
  refine zv_dup_x1 X dJ2_fastRemove_37 rfl (zk_rc _) ?_
  refine zv_put_i X fp_q172 (fun z => by cases z) dJ2_fastRemove_38 h (fun P38 h => ?_)
  refine zv_null X dJ2_fastRemove_41 ?_
  refine zv_aast X zk_mayok dJ2_fastRemove_42 h (fun P42 h => ?_)
  exact zv_vret X rfl (by first | exact Nat.le_of_ble_eq_true rfl | omega | (dsimp only; omega)) (by first | exact Nat.le_of_ble_eq_true rfl | omega | (dsimp only; omega)) dJ2_fastRemove_43 h
theorem md_J2_fastRemove : yJ2_fastRemove.cls ≠ "java/lang/invoke/MethodHandle" ∧ yJ2_fastRemove.cls ≠ "java/lang/invoke/VarHandle" ∧ (parseMethodDescriptor yJ2_fastRemove.desc).map (fun d => d.parameters.length) = some 2 := by decide +kernel
theorem wk_J2_fastRemove (l : Launch) {D : zk_G} {g : zk_M} {b0 : Nat} {post : zk_H → Prop} {this : Nat} {x1 : Option Nat} {x2 : Int32} {P : zk_H} (hh : wp_J2_fastRemove post this x1 x2 P) : Met l yJ2_fastRemove (ws_ yJ2_fastRemove cJ2_fastRemove 4 none) ({ frames := 1, cells := 0, slots := 0, locals := 40 } : Room) (va_Pc [.ref this, va_rf (x1), .int (x2)] (zk_pre D g b0 P)) (va_Qv post (zk_B D b0) (zk_A b0)) 0 0 (zk_A b0) := by
  refine zk_enter "java/util/ArrayList" "fastRemove" rfl rfl (plainFor_of_name (by decide)) [.ref this, va_rf (x1), .int (x2)] (by cases x1 <;> exact Nat.le_of_ble_eq_true rfl) ?_
  intro p e s m args below meth c X
  refine zk_at0 (L' := [(0, va_rf (some this)), (1, va_rf (x1)), (2, .int (x2))]) (by cases x1 <;> rfl) ?_
  have h := hh
  unfold wp_J2_fastRemove at h
  refine zv_aload_n X 0 dJ2_fastRemove_0 rfl ?_
  refine zv_dup X dJ2_fastRemove_1 (zk_rc _) ?_
  refine zv_getf_i X fo_q174 dJ2_fastRemove_2 h (fun v2 h => ?_)
  refine zv_iconst X (v := 1) dJ2_fastRemove_5 rfl ?_
  refine zv_iadd X dJ2_fastRemove_6 ?_
  refine zv_put_i X fp_q174 (fun z => by cases z) dJ2_fastRemove_7 h (fun P7 h => ?_)
  refine zv_aload_n X 0 dJ2_fastRemove_10 rfl ?_
  refine zv_getf_i X fo_q172 dJ2_fastRemove_11 h (fun v11 h => ?_)
  refine zv_iconst X (v := 1) dJ2_fastRemove_14 rfl ?_
  refine zv_isub X dJ2_fastRemove_15 ?_
  refine zv_dup X dJ2_fastRemove_16 rfl ?_
  refine zv_top_i h (fun v17 h => ?_)
  refine zv_istore_n X (i := 3) (L' := [(3, .int (v17)), (0, va_rf (some this)), (1, va_rf (x1)), (2, .int (x2))]) dJ2_fastRemove_17 rfl (by decide) rfl ?_
  refine zv_iload_n X 3 dJ2_fastRemove_18 rfl ?_
  refine zv_icmp_le X (tgt := 34) dJ2_fastRemove_19 (by decide) h (fun h => ?_) (fun h => ?_)
  · refine zv_sub (L' := [(0, va_rf (some this)), (1, va_rf (x1)), (3, .int (v17))]) [1, 2, 0] rfl ?_
    exact kj_J2_fastRemove_34 X  h
  · refine zv_aload_n X 2 dJ2_fastRemove_22 rfl ?_
    refine zv_iload_n X 3 dJ2_fastRemove_23 rfl ?_
    refine zv_iconst X (v := 1) dJ2_fastRemove_24 rfl ?_
    refine zv_iadd X dJ2_fastRemove_25 ?_
    refine zv_aload_n X 2 dJ2_fastRemove_26 rfl ?_
    refine zv_iload_n X 3 dJ2_fastRemove_27 rfl ?_
    refine zv_iload_n X 0 dJ2_fastRemove_28 rfl ?_
    refine zv_iload_n X 3 dJ2_fastRemove_29 rfl ?_
    refine zv_isub X dJ2_fastRemove_30 ?_
    refine zv_copyQ X zk_mayok q500 ⟨by first | decide | (dsimp only; decide), by first | decide | (dsimp only; decide)⟩ (zk_rs (Nat.le_of_ble_eq_true rfl)) dJ2_fastRemove_31 h (fun P31 h => ?_)
    refine zv_sub (L' := [(0, va_rf (some this)), (1, va_rf (x1)), (3, .int (v17))]) [1, 2, 0] rfl ?_
    exact kj_J2_fastRemove_34 X  h
theorem md_J2_remove : yJ2_remove.cls ≠ "java/lang/invoke/MethodHandle" ∧ yJ2_remove.cls ≠ "java/lang/invoke/VarHandle" ∧ (parseMethodDescriptor yJ2_remove.desc).map (fun d => d.parameters.length) = some 1 := by decide +kernel
theorem wk_J2_remove (l : Launch) {D : zk_G} {g : zk_M} {b0 : Nat} {post : Option Nat → zk_H → Prop} {this : Nat} {x1 : Int32} {P : zk_H} (hh : wp_J2_remove post this x1 P) : Met l yJ2_remove (ws_ yJ2_remove cJ2_remove 4 (some (Jvm.ClassFile.FieldType.object "java/lang/Object"))) ({ frames := 2, cells := 0, slots := 0, locals := 63 } : Room) (va_Pc [.ref this, .int (x1)] (zk_pre D g b0 P)) (va_Qq post (zk_B D b0) (zk_A b0)) 0 0 (zk_A b0) := by
  refine zk_enter "java/util/ArrayList" "remove" rfl rfl (plainFor_of_name (by decide)) [.ref this, .int (x1)] (Nat.le_of_ble_eq_true rfl) ?_
  intro p e s m args below meth c X
  refine zk_at0 (L' := [(0, va_rf (some this)), (1, .int (x1))]) (rfl) ?_
  have h := hh
  unfold wp_J2_remove at h
  refine zv_iload_n X 1 dJ2_remove_0 rfl ?_
  refine zv_aload_n X 0 dJ2_remove_1 rfl ?_
  refine zv_getf_i X fo_q172 dJ2_remove_2 h (fun v2 h => ?_)
  refine zv_ciR ((zr_S X (As := [.int (x1), .int (v2)]) (rest := []) (wk_J15_checkIndex l h) (va_cwS 2 X.hts (lw_S q509 q510 q125 q511) rfl rfl rfl md_J15_checkIndex ⟨Nat.le_of_ble_eq_true rfl, Nat.le_of_ble_eq_true rfl⟩) rfl rfl (zk_rs (Nat.le_of_ble_eq_true rfl)) dJ2_remove_5 ⟨by first | exact Nat.le_of_ble_eq_true rfl | omega | (dsimp only; omega), by first | exact Nat.le_of_ble_eq_true rfl | omega | (dsimp only; omega)⟩)) (fun v5 h => ?_)
  refine zv_pop X dJ2_remove_8 rfl ?_
  refine zv_aload_n X 0 dJ2_remove_9 rfl ?_
  refine zv_getf_r X fo_q171 dJ2_remove_10 h (fun v10 h => ?_)
  refine zv_astore_n X (i := 2) (L' := [(2, va_rf (v10)), (0, va_rf (some this)), (1, .int (x1))]) dJ2_remove_13 rfl (by decide) rfl ?_
  refine zv_aload_n X 0 dJ2_remove_14 rfl ?_
  refine zv_iload_n X 2 dJ2_remove_15 rfl ?_
  refine zv_aald X dJ2_remove_16 h (fun v16 h => ?_)
  refine zv_astore_n X (i := 3) (L' := [(3, va_rf (v16)), (2, va_rf (v10)), (0, va_rf (some this)), (1, .int (x1))]) dJ2_remove_17 rfl (by decide) (by simp [zk_s1, zk_s2, zk_rc, zk_ic, zk_jc]) ?_
  refine zv_aload_n X 2 dJ2_remove_18 rfl ?_
  refine zv_aload_n X 1 dJ2_remove_19 rfl ?_
  refine zv_iload_n X 3 dJ2_remove_20 rfl ?_
  refine zv_cv ((zr_Vl X (As := [va_rf (v10), .int (x1)]) (rest := []) h (fun a h => wk_J2_fastRemove l h) (zk_l1 ⟨_, rfl, cwV 2 X.hts (lw_V q1326 q1328 qs30 q106 q1329) rfl rfl rfl ⟨rfl, md_J2_fastRemove⟩ ⟨Nat.le_of_ble_eq_true rfl, Nat.le_of_ble_eq_true rfl⟩⟩) rfl rfl (zk_rs (Nat.le_of_ble_eq_true rfl)) dJ2_remove_21 ⟨by first | exact Nat.le_of_ble_eq_true rfl | omega | (dsimp only; omega), by first | exact Nat.le_of_ble_eq_true rfl | omega | (dsimp only; omega)⟩)) (fun P21 h => ?_)
  refine zv_aload_n X 0 dJ2_remove_24 rfl ?_
  exact zv_aret X rfl (Or.inl ⟨_, rfl⟩) (by first | exact Nat.le_of_ble_eq_true rfl | omega | (dsimp only; omega)) (by first | exact Nat.le_of_ble_eq_true rfl | omega | (dsimp only; omega)) dJ2_remove_25 h
theorem md_J2_set : yJ2_set.cls ≠ "java/lang/invoke/MethodHandle" ∧ yJ2_set.cls ≠ "java/lang/invoke/VarHandle" ∧ (parseMethodDescriptor yJ2_set.desc).map (fun d => d.parameters.length) = some 2 := by decide +kernel
theorem wk_J2_set (l : Launch) {D : zk_G} {g : zk_M} {b0 : Nat} {post : Option Nat → zk_H → Prop} {this : Nat} {x1 : Int32} {x2 : Option Nat} {P : zk_H} (hh : wp_J2_set post this x1 x2 P) : Met l yJ2_set (ws_ yJ2_set cJ2_set 4 (some (Jvm.ClassFile.FieldType.object "java/lang/Object"))) ({ frames := 2, cells := 0, slots := 0, locals := 43 } : Room) (va_Pc [.ref this, .int (x1), va_rf (x2)] (zk_pre D g b0 P)) (va_Qq post (zk_B D b0) (zk_A b0)) 0 0 (zk_A b0) := by
  refine zk_enter "java/util/ArrayList" "set" rfl rfl (plainFor_of_name (by decide)) [.ref this, .int (x1), va_rf (x2)] (by cases x2 <;> exact Nat.le_of_ble_eq_true rfl) ?_
  intro p e s m args below meth c X
  refine zk_at0 (L' := [(0, va_rf (some this)), (1, .int (x1)), (2, va_rf (x2))]) (by cases x2 <;> rfl) ?_
  have h := hh
  unfold wp_J2_set at h
  refine zv_iload_n X 1 dJ2_set_0 rfl ?_
  refine zv_aload_n X 0 dJ2_set_1 rfl ?_
  refine zv_getf_i X fo_q172 dJ2_set_2 h (fun v2 h => ?_)
  refine zv_ciR ((zr_S X (As := [.int (x1), .int (v2)]) (rest := []) (wk_J15_checkIndex l h) (va_cwS 2 X.hts (lw_S q509 q510 q125 q511) rfl rfl rfl md_J15_checkIndex ⟨Nat.le_of_ble_eq_true rfl, Nat.le_of_ble_eq_true rfl⟩) rfl rfl (zk_rs (Nat.le_of_ble_eq_true rfl)) dJ2_set_5 ⟨by first | exact Nat.le_of_ble_eq_true rfl | omega | (dsimp only; omega), by first | exact Nat.le_of_ble_eq_true rfl | omega | (dsimp only; omega)⟩)) (fun v5 h => ?_)
  refine zv_pop X dJ2_set_8 rfl ?_
  refine zv_aload_n X 0 dJ2_set_9 rfl ?_
  refine zv_iload_n X 1 dJ2_set_10 rfl ?_
  refine zv_cqR ((zr_Vl X (As := [.int (x1)]) (rest := []) h (fun a h => wk_J2_elementData l h) (zk_l1 ⟨_, rfl, cwV 1 X.hts (lw_V q515 q516 q517 q106 q518) rfl rfl rfl ⟨rfl, md_J2_elementData⟩ ⟨Nat.le_of_ble_eq_true rfl, Nat.le_of_ble_eq_true rfl⟩⟩) rfl rfl (zk_rs (Nat.le_of_ble_eq_true rfl)) dJ2_set_11 ⟨by first | exact Nat.le_of_ble_eq_true rfl | omega | (dsimp only; omega), by first | exact Nat.le_of_ble_eq_true rfl | omega | (dsimp only; omega)⟩)) (fun v11 h => ?_)
  refine zv_astore_n X (i := 3) (L' := [(3, va_rf (v11)), (0, va_rf (some this)), (1, .int (x1)), (2, va_rf (x2))]) dJ2_set_14 rfl (by decide) (by simp [zk_s1, zk_s2, zk_rc, zk_ic, zk_jc]) ?_
  refine zv_aload_n X 1 dJ2_set_15 rfl ?_
  refine zv_getf_r X fo_q171 dJ2_set_16 h (fun v16 h => ?_)
  refine zv_iload_n X 2 dJ2_set_19 rfl ?_
  refine zv_aload_n X 3 dJ2_set_20 rfl ?_
  refine zv_aast X zk_mayok dJ2_set_21 h (fun P21 h => ?_)
  refine zv_aload_n X 0 dJ2_set_22 rfl ?_
  exact zv_aret X rfl (Or.inl ⟨_, rfl⟩) (by first | exact Nat.le_of_ble_eq_true rfl | omega | (dsimp only; omega)) (by first | exact Nat.le_of_ble_eq_true rfl | omega | (dsimp only; omega)) dJ2_set_23 h
theorem md_J16_get : yJ16_get.cls ≠ "java/lang/invoke/MethodHandle" ∧ yJ16_get.cls ≠ "java/lang/invoke/VarHandle" ∧ (parseMethodDescriptor yJ16_get.desc).map (fun d => d.parameters.length) = some 1 := by decide +kernel
theorem wk_J16_get (l : Launch) {D : zk_G} {g : zk_M} {b0 : Nat} {post : Int32 → Prop} {this : Nat} {x1 : Int32} {P : zk_H} (hh : wp_J16_get post this x1 P) : Met l yJ16_get (ws_ yJ16_get cJ16_get 3 (some Jvm.ClassFile.FieldType.boolean)) ({ frames := 1, cells := 0, slots := 0, locals := 20 } : Room) (va_Pc [.ref this, .int (x1)] (zk_pre D g b0 P)) (va_Qi (fun r u => post r ∧ u = P) (zk_B D b0) (zk_A b0)) 0 0 (zk_A b0) := by
  refine zk_enter "java/util/BitSet" "get" rfl rfl (plainFor_of_name (by decide)) [.ref this, .int (x1)] (Nat.le_of_ble_eq_true rfl) ?_
  intro p e s m args below meth c X
  refine zk_at0 (L' := [(0, va_rf (some this)), (1, .int (x1))]) (rfl) ?_
  have h := hh
  unfold wp_J16_get at h
  refine zv_iload_n X 1 dJ16_get_0 rfl ?_
  refine zv_if_ge X (tgt := 31) dJ16_get_1 (by decide) h (fun h => ?_) (fun h => ?_)
  · refine zv_aload_n X 0 dJ16_get_31 rfl ?_
    refine zv_cvR ((zr_Vl X (As := []) (rest := []) h (fun a h => wk_J16_checkInvariants l h) (zk_l1 ⟨_, rfl, cwV 0 X.hts (lw_V q666 q668 qs6 q126 q669) rfl rfl rfl ⟨rfl, md_J16_checkInvariants⟩ ⟨Nat.le_of_ble_eq_true rfl, Nat.le_of_ble_eq_true rfl⟩⟩) rfl rfl (zk_rs (Nat.le_of_ble_eq_true rfl)) dJ16_get_32 ⟨by first | exact Nat.le_of_ble_eq_true rfl | omega | (dsimp only; omega), by first | exact Nat.le_of_ble_eq_true rfl | omega | (dsimp only; omega)⟩)) (fun h => ?_)
    refine zv_iload_n X 1 dJ16_get_35 rfl ?_
    refine zv_ciR ((zr_S X (As := [.int (x1)]) (rest := []) (wk_J16_wordIndex l h) (va_cwS 1 X.hts (lw_S q573 q574 q126 q575) rfl rfl rfl md_J16_wordIndex ⟨Nat.le_of_ble_eq_true rfl, Nat.le_of_ble_eq_true rfl⟩) rfl rfl (zk_rs (Nat.le_of_ble_eq_true rfl)) dJ16_get_36 ⟨by first | exact Nat.le_of_ble_eq_true rfl | omega | (dsimp only; omega), by first | exact Nat.le_of_ble_eq_true rfl | omega | (dsimp only; omega)⟩)) (fun v36 h => ?_)
    refine zv_istore_n X (i := 2) (L' := [(2, .int (v36)), (0, va_rf (some this)), (1, .int (x1))]) dJ16_get_39 rfl (by decide) rfl ?_
    refine zv_iload_n X 0 dJ16_get_40 rfl ?_
    refine zv_aload_n X 1 dJ16_get_41 rfl ?_
    refine zv_getf_i X fo_q577 dJ16_get_42 h (fun v42 h => ?_)
    refine zv_icmp_ge X (tgt := 67) dJ16_get_45 (by decide) h (fun h => ?_) (fun h => ?_)
    · refine zv_iconst X (v := 0) dJ16_get_67 rfl ?_
      exact zv_zret X (ty := .boolean) rfl (by first | exact Nat.le_of_ble_eq_true rfl | omega | (dsimp only; omega)) (by first | exact Nat.le_of_ble_eq_true rfl | omega | (dsimp only; omega)) dJ16_get_68 ⟨rfl, ⟨h, rfl⟩⟩
    · refine zv_aload_n X 1 dJ16_get_48 rfl ?_
      refine zv_getf_r X fo_q576 dJ16_get_49 h (fun v49 h => ?_)
      refine zv_iload_n X 0 dJ16_get_52 rfl ?_
      refine zv_lald X dJ16_get_53 h (fun v53 h => ?_)
      refine zv_lconst X (v := 1) dJ16_get_54 rfl ?_
      refine zv_iload_n X 2 dJ16_get_55 rfl ?_
      refine zv_lshl X dJ16_get_56 ?_
      refine zv_land X dJ16_get_57 ?_
      refine zv_lconst X (v := 0) dJ16_get_58 rfl ?_
      refine zv_lcmp X dJ16_get_59 ?_
      refine zv_if_eq X (tgt := 67) dJ16_get_60 (by decide) h (fun h => ?_) (fun h => ?_)
      · refine zv_iconst X (v := 0) dJ16_get_67 rfl ?_
        exact zv_zret X (ty := .boolean) rfl (by first | exact Nat.le_of_ble_eq_true rfl | omega | (dsimp only; omega)) (by first | exact Nat.le_of_ble_eq_true rfl | omega | (dsimp only; omega)) dJ16_get_68 ⟨rfl, ⟨h, rfl⟩⟩
      · refine zv_iconst X (v := 1) dJ16_get_63 rfl ?_
        refine zv_goto X (tgt := 68) dJ16_get_64 (by decide) ?_
        exact zv_zret X (ty := .boolean) rfl (by first | exact Nat.le_of_ble_eq_true rfl | omega | (dsimp only; omega)) (by first | exact Nat.le_of_ble_eq_true rfl | omega | (dsimp only; omega)) dJ16_get_68 ⟨rfl, ⟨h, rfl⟩⟩
  · exact h.elim
theorem md_J16_expandTo : yJ16_expandTo.cls ≠ "java/lang/invoke/MethodHandle" ∧ yJ16_expandTo.cls ≠ "java/lang/invoke/VarHandle" ∧ (parseMethodDescriptor yJ16_expandTo.desc).map (fun d => d.parameters.length) = some 1 := by decide +kernel
theorem wk_J16_expandTo (l : Launch) {D : zk_G} {g : zk_M} {b0 : Nat} {post : Prop} {this : Nat} {x1 : Int32} {P : zk_H} (hh : wp_J16_expandTo post this x1 P) : Met l yJ16_expandTo (ws_ yJ16_expandTo cJ16_expandTo 3 none) ({ frames := 0, cells := 0, slots := 0, locals := 0 } : Room) (va_Pc [.ref this, .int (x1)] (zk_pre D g b0 P)) (va_Qv (fun u => post ∧ u = P) (zk_B D b0) (zk_A b0)) 0 0 (zk_A b0) := by
  refine zk_enter "java/util/BitSet" "expandTo" rfl rfl (plainFor_of_name (by decide)) [.ref this, .int (x1)] (Nat.le_of_ble_eq_true rfl) ?_
  intro p e s m args below meth c X
  refine zk_at0 (L' := [(0, va_rf (some this)), (1, .int (x1))]) (rfl) ?_
  have h := hh
  unfold wp_J16_expandTo at h
  refine zv_iload_n X 1 dJ16_expandTo_0 rfl ?_
  refine zv_iconst X (v := 1) dJ16_expandTo_1 rfl ?_
  refine zv_iadd X dJ16_expandTo_2 ?_
  refine zv_top_i h (fun v3 h => ?_)
  refine zv_istore_n X (i := 2) (L' := [(2, .int (v3)), (0, va_rf (some this)), (1, .int (x1))]) dJ16_expandTo_3 rfl (by decide) rfl ?_
  refine zv_aload_n X 1 dJ16_expandTo_4 rfl ?_
  refine zv_getf_i X fo_q577 dJ16_expandTo_5 h (fun v5 h => ?_)
  refine zv_iload_n X 0 dJ16_expandTo_8 rfl ?_
  refine zv_icmp_ge X (tgt := 22) dJ16_expandTo_9 (by decide) h (fun h => ?_) (fun h => ?_)
  · exact zv_vret X rfl (by first | exact Nat.le_of_ble_eq_true rfl | omega | (dsimp only; omega)) (by first | exact Nat.le_of_ble_eq_true rfl | omega | (dsimp only; omega)) dJ16_expandTo_22 ⟨h, rfl⟩
  · refine zv_aload_n X 1 dJ16_expandTo_12 rfl ?_
    refine zv_iload_n X 0 dJ16_expandTo_13 rfl ?_
    exact h.elim
theorem md_J16_set : yJ16_set.cls ≠ "java/lang/invoke/MethodHandle" ∧ yJ16_set.cls ≠ "java/lang/invoke/VarHandle" ∧ (parseMethodDescriptor yJ16_set.desc).map (fun d => d.parameters.length) = some 1 := by decide +kernel
theorem wk_J16_set (l : Launch) {D : zk_G} {g : zk_M} {b0 : Nat} {post : zk_H → Prop} {this : Nat} {x1 : Int32} {P : zk_H} (hh : wp_J16_set post this x1 P) : Met l yJ16_set (ws_ yJ16_set cJ16_set 3 none) ({ frames := 1, cells := 0, slots := 0, locals := 22 } : Room) (va_Pc [.ref this, .int (x1)] (zk_pre D g b0 P)) (va_Qv post (zk_B D b0) (zk_A b0)) 0 0 (zk_A b0) := by
  refine zk_enter "java/util/BitSet" "set" rfl rfl (plainFor_of_name (by decide)) [.ref this, .int (x1)] (Nat.le_of_ble_eq_true rfl) ?_
  intro p e s m args below meth c X
  refine zk_at0 (L' := [(0, va_rf (some this)), (1, .int (x1))]) (rfl) ?_
  have h := hh
  unfold wp_J16_set at h
  refine zv_iload_n X 1 dJ16_set_0 rfl ?_
  refine zv_if_ge X (tgt := 31) dJ16_set_1 (by decide) h (fun h => ?_) (fun h => ?_)
  · refine zv_iload_n X 1 dJ16_set_31 rfl ?_
    refine zv_ciR ((zr_S X (As := [.int (x1)]) (rest := []) (wk_J16_wordIndex l h) (va_cwS 1 X.hts (lw_S q573 q574 q126 q575) rfl rfl rfl md_J16_wordIndex ⟨Nat.le_of_ble_eq_true rfl, Nat.le_of_ble_eq_true rfl⟩) rfl rfl (zk_rs (Nat.le_of_ble_eq_true rfl)) dJ16_set_32 ⟨by first | exact Nat.le_of_ble_eq_true rfl | omega | (dsimp only; omega), by first | exact Nat.le_of_ble_eq_true rfl | omega | (dsimp only; omega)⟩)) (fun v32 h => ?_)
    refine zv_istore_n X (i := 2) (L' := [(2, .int (v32)), (0, va_rf (some this)), (1, .int (x1))]) dJ16_set_35 rfl (by decide) rfl ?_
    refine zv_aload_n X 1 dJ16_set_36 rfl ?_
    refine zv_iload_n X 0 dJ16_set_37 rfl ?_
    refine zv_cvR ((zr_Vl X (As := [.int (v32)]) (rest := []) h (fun a h => wk_J16_expandTo l h) (zk_l1 ⟨_, rfl, cwV 1 X.hts (lw_V q1229 q1231 qs22 q126 q1232) rfl rfl rfl ⟨rfl, md_J16_expandTo⟩ ⟨Nat.le_of_ble_eq_true rfl, Nat.le_of_ble_eq_true rfl⟩⟩) rfl rfl (zk_rs (Nat.le_of_ble_eq_true rfl)) dJ16_set_38 ⟨by first | exact Nat.le_of_ble_eq_true rfl | omega | (dsimp only; omega), by first | exact Nat.le_of_ble_eq_true rfl | omega | (dsimp only; omega)⟩)) (fun h => ?_)
    refine zv_aload_n X 1 dJ16_set_41 rfl ?_
    refine zv_getf_r X fo_q576 dJ16_set_42 h (fun v42 h => ?_)
    refine zv_iload_n X 0 dJ16_set_45 rfl ?_
    refine zv_dup2 X dJ16_set_46 rfl (zk_rc _) ?_
    refine zv_lald X dJ16_set_47 h (fun v47 h => ?_)
    refine zv_lconst X (v := 1) dJ16_set_48 rfl ?_
    refine zv_iload_n X 2 dJ16_set_49 rfl ?_
    refine zv_lshl X dJ16_set_50 ?_
    refine zv_lor X dJ16_set_51 ?_
    refine zv_last X dJ16_set_52 h (fun P52 h => ?_)
    refine zv_aload_n X 1 dJ16_set_53 rfl ?_
    refine zv_cvR ((zr_Vl X (As := []) (rest := []) h (fun a h => wk_J16_checkInvariants l h) (zk_l1 ⟨_, rfl, cwV 0 X.hts (lw_V q666 q668 qs6 q126 q669) rfl rfl rfl ⟨rfl, md_J16_checkInvariants⟩ ⟨Nat.le_of_ble_eq_true rfl, Nat.le_of_ble_eq_true rfl⟩⟩) rfl rfl (zk_rs (Nat.le_of_ble_eq_true rfl)) dJ16_set_54 ⟨by first | exact Nat.le_of_ble_eq_true rfl | omega | (dsimp only; omega), by first | exact Nat.le_of_ble_eq_true rfl | omega | (dsimp only; omega)⟩)) (fun h => ?_)
    exact zv_vret X rfl (by first | exact Nat.le_of_ble_eq_true rfl | omega | (dsimp only; omega)) (by first | exact Nat.le_of_ble_eq_true rfl | omega | (dsimp only; omega)) dJ16_set_57 h
  · exact h.elim
theorem kj_J16_recalculateWordsInUse_31 {p : Program} {l : Launch} {e : Env} {s : State} {m : MethodId} {args : Array Value} {below : List Frame} {meth : Method} {c : Code} {D : zk_G} {g : zk_M} {b0 : Nat} (X : zk_X p s m args meth c D g b0 cJ16_recalculateWordsInUse 2 "java/util/BitSet" "recalculateWordsInUse" none) {post : zk_H → Prop}  {a0 : Option Nat} {a1 : Int32} {P : zk_H}    (hh : wj_J16_recalculateWordsInUse_31 post a0 a1 P) : zV p l e ({ frames := 0, cells := 0, slots := 0, locals := 0 } : Room) s m args below meth c D b0 2 (0) (0) (MQ below (va_Qv post (zk_B D b0) (zk_A b0)) args s 0 0 (zk_A b0)) P 31 [(0, va_rf (a0)), (1, .int (a1))] [] := by
  have h := hh
  unfold wj_J16_recalculateWordsInUse_31 at h
  refine zv_aload_n X 0 dJ16_recalculateWordsInUse_31 rfl ?_
  refine zv_iload_n X 1 dJ16_recalculateWordsInUse_32 rfl ?_
  refine zv_iconst X (v := 1) dJ16_recalculateWordsInUse_33 rfl ?_
  refine zv_iadd X dJ16_recalculateWordsInUse_34 ?_
  refine zv_put_i X fp_q577 (fun z => by cases z) dJ16_recalculateWordsInUse_35 h (fun P35 h => ?_)
  exact zv_vret X rfl (by first | exact Nat.le_of_ble_eq_true rfl | omega | (dsimp only; omega)) (by first | exact Nat.le_of_ble_eq_true rfl | omega | (dsimp only; omega)) dJ16_recalculateWordsInUse_38 h
theorem kb_J16_recalculateWordsInUse_7 {p : Program} {l : Launch} {e : Env} {s : State} {m : MethodId} {args : Array Value} {below : List Frame} {meth : Method} {c : Code} {D : zk_G} {g : zk_M} {b0 : Nat} (X : zk_X p s m args meth c D g b0 cJ16_recalculateWordsInUse 2 "java/util/BitSet" "recalculateWordsInUse" none) {post : zk_H → Prop}  {K7 : Int32 → Prop} {a0 : Option Nat} {a1 : Int32} {P : zk_H}   (hK7 : ∀ (u1 : Int32), K7 u1 → zV p l e ({ frames := 0, cells := 0, slots := 0, locals := 0 } : Room) s m args below meth c D b0 2 (0) (0) (MQ below (va_Qv post (zk_B D b0) (zk_A b0)) args s 0 0 (zk_A b0)) P 7 [(0, va_rf (a0)), (1, .int (u1))] [])  (hh : wb_J16_recalculateWordsInUse_7 post a0 P K7 a1) : zV p l e ({ frames := 0, cells := 0, slots := 0, locals := 0 } : Room) s m args below meth c D b0 2 (0) (0) (MQ below (va_Qv post (zk_B D b0) (zk_A b0)) args s 0 0 (zk_A b0)) P 7 [(0, va_rf (a0)), (1, .int (a1))] [] := by
  have h := hh
  unfold wb_J16_recalculateWordsInUse_7 at h
  refine zv_iload_n X 1 dJ16_recalculateWordsInUse_7 rfl ?_
  refine zv_if_lt X (tgt := 31) dJ16_recalculateWordsInUse_8 (by decide) h (fun h => ?_) (fun h => ?_)
  · exact kj_J16_recalculateWordsInUse_31 X  h
  · refine zv_aload_n X 0 dJ16_recalculateWordsInUse_11 rfl ?_
    refine zv_getf_r X fo_q576 dJ16_recalculateWordsInUse_12 h (fun v12 h => ?_)
    refine zv_iload_n X 1 dJ16_recalculateWordsInUse_15 rfl ?_
    refine zv_lald X dJ16_recalculateWordsInUse_16 h (fun v16 h => ?_)
    refine zv_lconst X (v := 0) dJ16_recalculateWordsInUse_17 rfl ?_
    refine zv_lcmp X dJ16_recalculateWordsInUse_18 ?_
    refine zv_if_eq X (tgt := 25) dJ16_recalculateWordsInUse_19 (by decide) h (fun h => ?_) (fun h => ?_)
    · obtain ⟨v25, e25, h⟩ := zt_e h
      refine zv_iinc X (v := v25) (L' := [(1, .int (v25)), (0, va_rf (a0))]) 1 dJ16_recalculateWordsInUse_25 rfl e25 (by decide) (by simp [zk_s1, zk_rc, zk_ic, zk_jc]) ?_
      refine zv_goto X (tgt := 7) dJ16_recalculateWordsInUse_28 (by decide) ?_
      refine zv_sub (L' := [(0, va_rf (a0)), (1, .int (v25))]) [1, 0] rfl ?_
      exact hK7 _ h
    · refine zv_goto X (tgt := 31) dJ16_recalculateWordsInUse_22 (by decide) ?_
      exact kj_J16_recalculateWordsInUse_31 X  h
theorem kl_J16_recalculateWordsInUse_7 {p : Program} {l : Launch} {e : Env} {s : State} {m : MethodId} {args : Array Value} {below : List Frame} {meth : Method} {c : Code} {D : zk_G} {g : zk_M} {b0 : Nat} (X : zk_X p s m args meth c D g b0 cJ16_recalculateWordsInUse 2 "java/util/BitSet" "recalculateWordsInUse" none) {post : zk_H → Prop}  {a0 : Option Nat} {P : zk_H}   : ∀ (n : Nat) (a1 : Int32), wl_J16_recalculateWordsInUse_7 post a0 P n a1 → zV p l e ({ frames := 0, cells := 0, slots := 0, locals := 0 } : Room) s m args below meth c D b0 2 (0) (0) (MQ below (va_Qv post (zk_B D b0) (zk_A b0)) args s 0 0 (zk_A b0)) P 7 [(0, va_rf (a0)), (1, .int (a1))] [] := by
  intro n
  induction n with
  | zero => intro _ h; exact h.elim
  | succ n ih =>
    intro a1 h
    exact kb_J16_recalculateWordsInUse_7 X  (fun u0 h => ih _ h)  h
theorem md_J16_recalculateWordsInUse : yJ16_recalculateWordsInUse.cls ≠ "java/lang/invoke/MethodHandle" ∧ yJ16_recalculateWordsInUse.cls ≠ "java/lang/invoke/VarHandle" ∧ (parseMethodDescriptor yJ16_recalculateWordsInUse.desc).map (fun d => d.parameters.length) = some 0 := by decide +kernel
theorem wk_J16_recalculateWordsInUse (l : Launch) {D : zk_G} {g : zk_M} {b0 : Nat} {post : zk_H → Prop} {this : Nat} {P : zk_H} (hh : wp_J16_recalculateWordsInUse post this P) : Met l yJ16_recalculateWordsInUse (ws_ yJ16_recalculateWordsInUse cJ16_recalculateWordsInUse 2 none) ({ frames := 0, cells := 0, slots := 0, locals := 0 } : Room) (va_Pc [.ref this] (zk_pre D g b0 P)) (va_Qv post (zk_B D b0) (zk_A b0)) 0 0 (zk_A b0) := by
  refine zk_enter "java/util/BitSet" "recalculateWordsInUse" rfl rfl (plainFor_of_name (by decide)) [.ref this] (Nat.le_of_ble_eq_true rfl) ?_
  intro p e s m args below meth c X
  refine zk_at0 (L' := [(0, va_rf (some this))]) (rfl) ?_
  have h := hh
  unfold wp_J16_recalculateWordsInUse at h
  refine zv_aload_n X 0 dJ16_recalculateWordsInUse_0 rfl ?_
  refine zv_getf_i X fo_q577 dJ16_recalculateWordsInUse_1 h (fun v1 h => ?_)
  refine zv_iconst X (v := 1) dJ16_recalculateWordsInUse_4 rfl ?_
  refine zv_isub X dJ16_recalculateWordsInUse_5 ?_
  refine zv_top_i h (fun v6 h => ?_)
  refine zv_istore_n X (i := 1) (L' := [(1, .int (v6)), (0, va_rf (some this))]) dJ16_recalculateWordsInUse_6 rfl (by decide) rfl ?_
  refine zv_sub (L' := [(0, va_rf (some this)), (1, .int (v6))]) [1, 0] rfl ?_
  obtain ⟨n6, h⟩ := h
  exact kl_J16_recalculateWordsInUse_7 X  n6 _ h
theorem md_J16_clear : yJ16_clear.cls ≠ "java/lang/invoke/MethodHandle" ∧ yJ16_clear.cls ≠ "java/lang/invoke/VarHandle" ∧ (parseMethodDescriptor yJ16_clear.desc).map (fun d => d.parameters.length) = some 1 := by decide +kernel
theorem wk_J16_clear (l : Launch) {D : zk_G} {g : zk_M} {b0 : Nat} {post : zk_H → Prop} {this : Nat} {x1 : Int32} {P : zk_H} (hh : wp_J16_clear post this x1 P) : Met l yJ16_clear (ws_ yJ16_clear cJ16_clear 3 none) ({ frames := 1, cells := 0, slots := 0, locals := 21 } : Room) (va_Pc [.ref this, .int (x1)] (zk_pre D g b0 P)) (va_Qv post (zk_B D b0) (zk_A b0)) 0 0 (zk_A b0) := by
  refine zk_enter "java/util/BitSet" "clear" rfl rfl (plainFor_of_name (by decide)) [.ref this, .int (x1)] (Nat.le_of_ble_eq_true rfl) ?_
  intro p e s m args below meth c X
  refine zk_at0 (L' := [(0, va_rf (some this)), (1, .int (x1))]) (rfl) ?_
  have h := hh
  unfold wp_J16_clear at h
  refine zv_iload_n X 1 dJ16_clear_0 rfl ?_
  refine zv_if_ge X (tgt := 31) dJ16_clear_1 (by decide) h (fun h => ?_) (fun h => ?_)
  · refine zv_iload_n X 1 dJ16_clear_31 rfl ?_
    refine zv_ciR ((zr_S X (As := [.int (x1)]) (rest := []) (wk_J16_wordIndex l h) (va_cwS 1 X.hts (lw_S q573 q574 q126 q575) rfl rfl rfl md_J16_wordIndex ⟨Nat.le_of_ble_eq_true rfl, Nat.le_of_ble_eq_true rfl⟩) rfl rfl (zk_rs (Nat.le_of_ble_eq_true rfl)) dJ16_clear_32 ⟨by first | exact Nat.le_of_ble_eq_true rfl | omega | (dsimp only; omega), by first | exact Nat.le_of_ble_eq_true rfl | omega | (dsimp only; omega)⟩)) (fun v32 h => ?_)
    refine zv_istore_n X (i := 2) (L' := [(2, .int (v32)), (0, va_rf (some this)), (1, .int (x1))]) dJ16_clear_35 rfl (by decide) rfl ?_
    refine zv_iload_n X 0 dJ16_clear_36 rfl ?_
    refine zv_aload_n X 1 dJ16_clear_37 rfl ?_
    refine zv_getf_i X fo_q577 dJ16_clear_38 h (fun v38 h => ?_)
    refine zv_icmp_lt X (tgt := 45) dJ16_clear_41 (by decide) h (fun h => ?_) (fun h => ?_)
    · refine zv_aload_n X 1 dJ16_clear_45 rfl ?_
      refine zv_getf_r X fo_q576 dJ16_clear_46 h (fun v46 h => ?_)
      refine zv_iload_n X 0 dJ16_clear_49 rfl ?_
      refine zv_dup2 X dJ16_clear_50 rfl (zk_rc _) ?_
      refine zv_lald X dJ16_clear_51 h (fun v51 h => ?_)
      refine zv_lconst X (v := 1) dJ16_clear_52 rfl ?_
      refine zv_iload_n X 2 dJ16_clear_53 rfl ?_
      refine zv_lshl X dJ16_clear_54 ?_
      refine zv_ldc2 X q1241 dJ16_clear_55 ?_
      refine zv_lxor X dJ16_clear_58 ?_
      refine zv_land X dJ16_clear_59 ?_
      refine zv_last X dJ16_clear_60 h (fun P60 h => ?_)
      refine zv_aload_n X 1 dJ16_clear_61 rfl ?_
      refine zv_cv ((zr_Vl X (As := []) (rest := []) h (fun a h => wk_J16_recalculateWordsInUse l h) (zk_l1 ⟨_, rfl, cwV 0 X.hts (lw_V q1242 q1244 qs24 q126 q1245) rfl rfl rfl ⟨rfl, md_J16_recalculateWordsInUse⟩ ⟨Nat.le_of_ble_eq_true rfl, Nat.le_of_ble_eq_true rfl⟩⟩) rfl rfl (zk_rs (Nat.le_of_ble_eq_true rfl)) dJ16_clear_62 ⟨by first | exact Nat.le_of_ble_eq_true rfl | omega | (dsimp only; omega), by first | exact Nat.le_of_ble_eq_true rfl | omega | (dsimp only; omega)⟩)) (fun P62 h => ?_)
      refine zv_aload_n X 1 dJ16_clear_65 rfl ?_
      refine zv_cvR ((zr_Vl X (As := []) (rest := []) h (fun a h => wk_J16_checkInvariants l h) (zk_l1 ⟨_, rfl, cwV 0 X.hts (lw_V q666 q668 qs6 q126 q669) rfl rfl rfl ⟨rfl, md_J16_checkInvariants⟩ ⟨Nat.le_of_ble_eq_true rfl, Nat.le_of_ble_eq_true rfl⟩⟩) rfl rfl (zk_rs (Nat.le_of_ble_eq_true rfl)) dJ16_clear_66 ⟨by first | exact Nat.le_of_ble_eq_true rfl | omega | (dsimp only; omega), by first | exact Nat.le_of_ble_eq_true rfl | omega | (dsimp only; omega)⟩)) (fun h => ?_)
      exact zv_vret X rfl (by first | exact Nat.le_of_ble_eq_true rfl | omega | (dsimp only; omega)) (by first | exact Nat.le_of_ble_eq_true rfl | omega | (dsimp only; omega)) dJ16_clear_69 h
    · exact zv_vret X rfl (by first | exact Nat.le_of_ble_eq_true rfl | omega | (dsimp only; omega)) (by first | exact Nat.le_of_ble_eq_true rfl | omega | (dsimp only; omega)) dJ16_clear_44 h
  · exact h.elim
theorem md_J16_isEmpty : yJ16_isEmpty.cls ≠ "java/lang/invoke/MethodHandle" ∧ yJ16_isEmpty.cls ≠ "java/lang/invoke/VarHandle" ∧ (parseMethodDescriptor yJ16_isEmpty.desc).map (fun d => d.parameters.length) = some 0 := by decide +kernel
theorem wk_J16_isEmpty (l : Launch) {D : zk_G} {g : zk_M} {b0 : Nat} {post : Int32 → Prop} {this : Nat} {P : zk_H} (hh : wp_J16_isEmpty post this P) : Met l yJ16_isEmpty (ws_ yJ16_isEmpty cJ16_isEmpty 1 (some Jvm.ClassFile.FieldType.boolean)) ({ frames := 0, cells := 0, slots := 0, locals := 0 } : Room) (va_Pc [.ref this] (zk_pre D g b0 P)) (va_Qi (fun r u => post r ∧ u = P) (zk_B D b0) (zk_A b0)) 0 0 (zk_A b0) := by
  refine zk_enter "java/util/BitSet" "isEmpty" rfl rfl (plainFor_of_name (by decide)) [.ref this] (Nat.le_of_ble_eq_true rfl) ?_
  intro p e s m args below meth c X
  refine zk_at0 (L' := [(0, va_rf (some this))]) (rfl) ?_
  have h := hh
  unfold wp_J16_isEmpty at h
  refine zv_aload_n X 0 dJ16_isEmpty_0 rfl ?_
  refine zv_getf_i X fo_q577 dJ16_isEmpty_1 h (fun v1 h => ?_)
  refine zv_if_ne X (tgt := 11) dJ16_isEmpty_4 (by decide) h (fun h => ?_) (fun h => ?_)
  · refine zv_iconst X (v := 0) dJ16_isEmpty_11 rfl ?_
    exact zv_zret X (ty := .boolean) rfl (by first | exact Nat.le_of_ble_eq_true rfl | omega | (dsimp only; omega)) (by first | exact Nat.le_of_ble_eq_true rfl | omega | (dsimp only; omega)) dJ16_isEmpty_12 ⟨rfl, ⟨h, rfl⟩⟩
  · refine zv_iconst X (v := 1) dJ16_isEmpty_7 rfl ?_
    refine zv_goto X (tgt := 12) dJ16_isEmpty_8 (by decide) ?_
    exact zv_zret X (ty := .boolean) rfl (by first | exact Nat.le_of_ble_eq_true rfl | omega | (dsimp only; omega)) (by first | exact Nat.le_of_ble_eq_true rfl | omega | (dsimp only; omega)) dJ16_isEmpty_12 ⟨rfl, ⟨h, rfl⟩⟩
theorem kb_J16_clear_2_0 {p : Program} {l : Launch} {e : Env} {s : State} {m : MethodId} {args : Array Value} {below : List Frame} {meth : Method} {c : Code} {D : zk_G} {g : zk_M} {b0 : Nat} (X : zk_X p s m args meth c D g b0 cJ16_clear_2 1 "java/util/BitSet" "clear" none) {post : zk_H → Prop}  {K0 : zk_H → Prop} {a0 : Option Nat} {P : zk_H}   (hK0 : ∀  (U : zk_H), K0  U → zV p l e ({ frames := 0, cells := 0, slots := 0, locals := 0 } : Room) s m args below meth c D b0 1 (0) (0) (MQ below (va_Qv post (zk_B D b0) (zk_A b0)) args s 0 0 (zk_A b0)) U 0 [(0, va_rf (a0))] [])  (hh : wb_J16_clear_2_0 post a0 K0 P) : zV p l e ({ frames := 0, cells := 0, slots := 0, locals := 0 } : Room) s m args below meth c D b0 1 (0) (0) (MQ below (va_Qv post (zk_B D b0) (zk_A b0)) args s 0 0 (zk_A b0)) P 0 [(0, va_rf (a0))] [] := by
  have h := hh
  unfold wb_J16_clear_2_0 at h
  refine zv_aload_n X 0 dJ16_clear_2_0 rfl ?_
  refine zv_getf_i X fo_q577 dJ16_clear_2_1 h (fun v1 h => ?_)
  refine zv_if_le X (tgt := 27) dJ16_clear_2_4 (by decide) h (fun h => ?_) (fun h => ?_)
  · exact zv_vret X rfl (by first | exact Nat.le_of_ble_eq_true rfl | omega | (dsimp only; omega)) (by first | exact Nat.le_of_ble_eq_true rfl | omega | (dsimp only; omega)) dJ16_clear_2_27 h
  · refine zv_aload_n X 0 dJ16_clear_2_7 rfl ?_
    refine zv_getf_r X fo_q576 dJ16_clear_2_8 h (fun v8 h => ?_)
    refine zv_aload_n X 0 dJ16_clear_2_11 rfl ?_
    refine zv_dup X dJ16_clear_2_12 (zk_rc _) ?_
    refine zv_getf_i X fo_q577 dJ16_clear_2_13 h (fun v13 h => ?_)
    refine zv_iconst X (v := 1) dJ16_clear_2_16 rfl ?_
    refine zv_isub X dJ16_clear_2_17 ?_
    refine zv_dup_x1 X dJ16_clear_2_18 rfl (zk_rc _) ?_
    refine zv_put_i X fp_q577 (fun z => by cases z) dJ16_clear_2_19 h (fun P19 h => ?_)
    refine zv_lconst X (v := 0) dJ16_clear_2_22 rfl ?_
    refine zv_last X dJ16_clear_2_23 h (fun P23 h => ?_)
    refine zv_goto X (tgt := 0) dJ16_clear_2_24 (by decide) ?_
    exact hK0 _ h
theorem kl_J16_clear_2_0 {p : Program} {l : Launch} {e : Env} {s : State} {m : MethodId} {args : Array Value} {below : List Frame} {meth : Method} {c : Code} {D : zk_G} {g : zk_M} {b0 : Nat} (X : zk_X p s m args meth c D g b0 cJ16_clear_2 1 "java/util/BitSet" "clear" none) {post : zk_H → Prop}  {a0 : Option Nat}   : ∀ (n : Nat)  (P : zk_H), wl_J16_clear_2_0 post a0 n P → zV p l e ({ frames := 0, cells := 0, slots := 0, locals := 0 } : Room) s m args below meth c D b0 1 (0) (0) (MQ below (va_Qv post (zk_B D b0) (zk_A b0)) args s 0 0 (zk_A b0)) P 0 [(0, va_rf (a0))] [] := by
  intro n
  induction n with
  | zero => intro _ h; exact h.elim
  | succ n ih =>
    intro P h
    exact kb_J16_clear_2_0 X  (fun u0 h => ih _ h)  h
theorem md_J16_clear_2 : yJ16_clear_2.cls ≠ "java/lang/invoke/MethodHandle" ∧ yJ16_clear_2.cls ≠ "java/lang/invoke/VarHandle" ∧ (parseMethodDescriptor yJ16_clear_2.desc).map (fun d => d.parameters.length) = some 0 := by decide +kernel
theorem wk_J16_clear_2 (l : Launch) {D : zk_G} {g : zk_M} {b0 : Nat} {post : zk_H → Prop} {this : Nat} {P : zk_H} (hh : wp_J16_clear_2 post this P) : Met l yJ16_clear_2 (ws_ yJ16_clear_2 cJ16_clear_2 1 none) ({ frames := 0, cells := 0, slots := 0, locals := 0 } : Room) (va_Pc [.ref this] (zk_pre D g b0 P)) (va_Qv post (zk_B D b0) (zk_A b0)) 0 0 (zk_A b0) := by
  refine zk_enter "java/util/BitSet" "clear" rfl rfl (plainFor_of_name (by decide)) [.ref this] (Nat.le_of_ble_eq_true rfl) ?_
  intro p e s m args below meth c X
  refine zk_at0 (L' := [(0, va_rf (some this))]) (rfl) ?_
  have h := hh
  unfold wp_J16_clear_2 at h
  obtain ⟨nNone, h⟩ := h
  exact kl_J16_clear_2_0 X  nNone _ h
theorem md_J18_bitCount : yJ18_bitCount.cls ≠ "java/lang/invoke/MethodHandle" ∧ yJ18_bitCount.cls ≠ "java/lang/invoke/VarHandle" ∧ (parseMethodDescriptor yJ18_bitCount.desc).map (fun d => d.parameters.length) = some 1 := by decide +kernel
theorem wk_J18_bitCount (l : Launch) {D : zk_G} {g : zk_M} {b0 : Nat} {post : Int32 → Prop} {x0 : Int64} {P : zk_H} (hh : wp_J18_bitCount post x0) : Met l yJ18_bitCount (ws_ yJ18_bitCount cJ18_bitCount 2 (some Jvm.ClassFile.FieldType.int)) ({ frames := 0, cells := 0, slots := 0, locals := 0 } : Room) (va_Pc [.long (x0)] (zk_pre D g b0 P)) (va_Qi (fun r u => post r ∧ u = P) (zk_B D b0) (zk_A b0)) 0 0 (zk_A b0) := by
  refine zk_enter "java/lang/Long" "bitCount" rfl rfl (plainFor_of_name (by decide)) [.long (x0)] (Nat.le_of_ble_eq_true rfl) ?_
  intro p e s m args below meth c X
  refine zk_at0 (L' := [(0, .long (x0))]) (rfl) ?_
  have h := hh
  unfold wp_J18_bitCount at h
  refine zv_lload_n X 0 dJ18_bitCount_0 rfl ?_
  refine zv_lload_n X 0 dJ18_bitCount_1 rfl ?_
  refine zv_iconst X (v := 1) dJ18_bitCount_2 rfl ?_
  refine zv_lushr X dJ18_bitCount_3 ?_
  refine zv_ldc2 X q1523 dJ18_bitCount_4 ?_
  refine zv_land X dJ18_bitCount_7 ?_
  refine zv_lsub X dJ18_bitCount_8 ?_
  refine zv_top_l h (fun v9 h => ?_)
  refine zv_lstore_n X (i := 0) (L' := [(0, .long (v9))]) dJ18_bitCount_9 rfl (by decide) rfl ?_
  refine zv_lload_n X 0 dJ18_bitCount_10 rfl ?_
  refine zv_ldc2 X q1524 dJ18_bitCount_11 ?_
  refine zv_land X dJ18_bitCount_14 ?_
  refine zv_lload_n X 0 dJ18_bitCount_15 rfl ?_
  refine zv_iconst X (v := 2) dJ18_bitCount_16 rfl ?_
  refine zv_lushr X dJ18_bitCount_17 ?_
  refine zv_ldc2 X q1524 dJ18_bitCount_18 ?_
  refine zv_land X dJ18_bitCount_21 ?_
  refine zv_ladd X dJ18_bitCount_22 ?_
  refine zv_top_l h (fun v23 h => ?_)
  refine zv_lstore_n X (i := 0) (L' := [(0, .long (v23))]) dJ18_bitCount_23 rfl (by decide) rfl ?_
  refine zv_lload_n X 0 dJ18_bitCount_24 rfl ?_
  refine zv_lload_n X 0 dJ18_bitCount_25 rfl ?_
  refine zv_iconst X (v := 4) dJ18_bitCount_26 rfl ?_
  refine zv_lushr X dJ18_bitCount_27 ?_
  refine zv_ladd X dJ18_bitCount_28 ?_
  refine zv_ldc2 X q1525 dJ18_bitCount_29 ?_
  refine zv_land X dJ18_bitCount_32 ?_
  refine zv_top_l h (fun v33 h => ?_)
  refine zv_lstore_n X (i := 0) (L' := [(0, .long (v33))]) dJ18_bitCount_33 rfl (by decide) rfl ?_
  refine zv_lload_n X 0 dJ18_bitCount_34 rfl ?_
  refine zv_lload_n X 0 dJ18_bitCount_35 rfl ?_
  refine zv_bipush X (v := 8) dJ18_bitCount_36 rfl ?_
  refine zv_lushr X dJ18_bitCount_38 ?_
  refine zv_ladd X dJ18_bitCount_39 ?_
  refine zv_top_l h (fun v40 h => ?_)
  refine zv_lstore_n X (i := 0) (L' := [(0, .long (v40))]) dJ18_bitCount_40 rfl (by decide) rfl ?_
  refine zv_lload_n X 0 dJ18_bitCount_41 rfl ?_
  refine zv_lload_n X 0 dJ18_bitCount_42 rfl ?_
  refine zv_bipush X (v := 16) dJ18_bitCount_43 rfl ?_
  refine zv_lushr X dJ18_bitCount_45 ?_
  refine zv_ladd X dJ18_bitCount_46 ?_
  refine zv_top_l h (fun v47 h => ?_)
  refine zv_lstore_n X (i := 0) (L' := [(0, .long (v47))]) dJ18_bitCount_47 rfl (by decide) rfl ?_
  refine zv_lload_n X 0 dJ18_bitCount_48 rfl ?_
  refine zv_lload_n X 0 dJ18_bitCount_49 rfl ?_
  refine zv_bipush X (v := 32) dJ18_bitCount_50 rfl ?_
  refine zv_lushr X dJ18_bitCount_52 ?_
  refine zv_ladd X dJ18_bitCount_53 ?_
  refine zv_top_l h (fun v54 h => ?_)
  refine zv_lstore_n X (i := 0) (L' := [(0, .long (v54))]) dJ18_bitCount_54 rfl (by decide) rfl ?_
  refine zv_lload_n X 0 dJ18_bitCount_55 rfl ?_
  refine zv_l2i X dJ18_bitCount_56 ?_
  refine zv_bipush X (v := 127) dJ18_bitCount_57 rfl ?_
  refine zv_iand X dJ18_bitCount_59 ?_
  exact zv_iret X rfl (by first | exact Nat.le_of_ble_eq_true rfl | omega | (dsimp only; omega)) (by first | exact Nat.le_of_ble_eq_true rfl | omega | (dsimp only; omega)) dJ18_bitCount_60 ⟨h, rfl⟩
theorem kb_J16_cardinality_4 {p : Program} {l : Launch} {e : Env} {s : State} {m : MethodId} {args : Array Value} {below : List Frame} {meth : Method} {c : Code} {D : zk_G} {g : zk_M} {b0 : Nat} (X : zk_X p s m args meth c D g b0 cJ16_cardinality 3 "java/util/BitSet" "cardinality" (some Jvm.ClassFile.FieldType.int)) {post : Int32 → Prop}  {K4 : Int32 → Int32 → Prop} {a0 : Option Nat} {a1 : Int32} {a2 : Int32} {P : zk_H}   (hK4 : ∀ (u1 : Int32) (u2 : Int32), K4 u1 u2 → zV p l e ({ frames := 1, cells := 0, slots := 0, locals := 21 } : Room) s m args below meth c D b0 3 (0) (0) (MQ below (va_Qi (fun r u => post r ∧ u = P) (zk_B D b0) (zk_A b0)) args s 0 0 (zk_A b0)) P 4 [(0, va_rf (a0)), (1, .int (u1)), (2, .int (u2))] [])  (hh : wb_J16_cardinality_4 post a0 P K4 a1 a2) : zV p l e ({ frames := 1, cells := 0, slots := 0, locals := 21 } : Room) s m args below meth c D b0 3 (0) (0) (MQ below (va_Qi (fun r u => post r ∧ u = P) (zk_B D b0) (zk_A b0)) args s 0 0 (zk_A b0)) P 4 [(0, va_rf (a0)), (1, .int (a1)), (2, .int (a2))] [] := by
  have h := hh
  unfold wb_J16_cardinality_4 at h
  refine zv_iload_n X 2 dJ16_cardinality_4 rfl ?_
  refine zv_aload_n X 0 dJ16_cardinality_5 rfl ?_
  refine zv_getf_i X fo_q577 dJ16_cardinality_6 h (fun v6 h => ?_)
  refine zv_icmp_ge X (tgt := 30) dJ16_cardinality_9 (by decide) h (fun h => ?_) (fun h => ?_)
  · refine zv_iload_n X 1 dJ16_cardinality_30 rfl ?_
    exact zv_iret X rfl (by first | exact Nat.le_of_ble_eq_true rfl | omega | (dsimp only; omega)) (by first | exact Nat.le_of_ble_eq_true rfl | omega | (dsimp only; omega)) dJ16_cardinality_31 ⟨h, rfl⟩
  · refine zv_iload_n X 1 dJ16_cardinality_12 rfl ?_
    refine zv_aload_n X 0 dJ16_cardinality_13 rfl ?_
    refine zv_getf_r X fo_q576 dJ16_cardinality_14 h (fun v14 h => ?_)
    refine zv_iload_n X 2 dJ16_cardinality_17 rfl ?_
    refine zv_lald X dJ16_cardinality_18 h (fun v18 h => ?_)
    refine zv_ciR ((zr_S X (As := [.long (v18)]) (rest := [.int (a1)]) (wk_J18_bitCount l h) (va_cwS 1 X.hts (lw_S q1520 q1521 q134 q1522) rfl rfl rfl md_J18_bitCount ⟨Nat.le_of_ble_eq_true rfl, Nat.le_of_ble_eq_true rfl⟩) rfl rfl (zk_rs (Nat.le_of_ble_eq_true rfl)) dJ16_cardinality_19 ⟨by first | exact Nat.le_of_ble_eq_true rfl | omega | (dsimp only; omega), by first | exact Nat.le_of_ble_eq_true rfl | omega | (dsimp only; omega)⟩)) (fun v19 h => ?_)
    refine zv_iadd X dJ16_cardinality_22 ?_
    refine zv_top_i h (fun v23 h => ?_)
    refine zv_istore_n X (i := 1) (L' := [(1, .int (v23)), (0, va_rf (a0)), (2, .int (a2))]) dJ16_cardinality_23 rfl (by decide) (by simp [zk_s1, zk_s2, zk_rc, zk_ic, zk_jc]) ?_
    obtain ⟨v24, e24, h⟩ := zt_e h
    refine zv_iinc X (v := v24) (L' := [(2, .int (v24)), (1, .int (v23)), (0, va_rf (a0))]) 2 dJ16_cardinality_24 rfl e24 (by decide) rfl ?_
    refine zv_goto X (tgt := 4) dJ16_cardinality_27 (by decide) ?_
    refine zv_sub (L' := [(0, va_rf (a0)), (1, .int (v23)), (2, .int (v24))]) [2, 1, 0] rfl ?_
    exact hK4 _ _ h
theorem kl_J16_cardinality_4 {p : Program} {l : Launch} {e : Env} {s : State} {m : MethodId} {args : Array Value} {below : List Frame} {meth : Method} {c : Code} {D : zk_G} {g : zk_M} {b0 : Nat} (X : zk_X p s m args meth c D g b0 cJ16_cardinality 3 "java/util/BitSet" "cardinality" (some Jvm.ClassFile.FieldType.int)) {post : Int32 → Prop}  {a0 : Option Nat} {P : zk_H}   : ∀ (n : Nat) (a1 : Int32) (a2 : Int32), wl_J16_cardinality_4 post a0 P n a1 a2 → zV p l e ({ frames := 1, cells := 0, slots := 0, locals := 21 } : Room) s m args below meth c D b0 3 (0) (0) (MQ below (va_Qi (fun r u => post r ∧ u = P) (zk_B D b0) (zk_A b0)) args s 0 0 (zk_A b0)) P 4 [(0, va_rf (a0)), (1, .int (a1)), (2, .int (a2))] [] := by
  intro n
  induction n with
  | zero => intro _ _ h; exact h.elim
  | succ n ih =>
    intro a1 a2 h
    exact kb_J16_cardinality_4 X  (fun u0 u1 h => ih _ _ h)  h
theorem md_J16_cardinality : yJ16_cardinality.cls ≠ "java/lang/invoke/MethodHandle" ∧ yJ16_cardinality.cls ≠ "java/lang/invoke/VarHandle" ∧ (parseMethodDescriptor yJ16_cardinality.desc).map (fun d => d.parameters.length) = some 0 := by decide +kernel
theorem wk_J16_cardinality (l : Launch) {D : zk_G} {g : zk_M} {b0 : Nat} {post : Int32 → Prop} {this : Nat} {P : zk_H} (hh : wp_J16_cardinality post this P) : Met l yJ16_cardinality (ws_ yJ16_cardinality cJ16_cardinality 3 (some Jvm.ClassFile.FieldType.int)) ({ frames := 1, cells := 0, slots := 0, locals := 21 } : Room) (va_Pc [.ref this] (zk_pre D g b0 P)) (va_Qi (fun r u => post r ∧ u = P) (zk_B D b0) (zk_A b0)) 0 0 (zk_A b0) := by
  refine zk_enter "java/util/BitSet" "cardinality" rfl rfl (plainFor_of_name (by decide)) [.ref this] (Nat.le_of_ble_eq_true rfl) ?_
  intro p e s m args below meth c X
  refine zk_at0 (L' := [(0, va_rf (some this))]) (rfl) ?_
  have h := hh
  unfold wp_J16_cardinality at h
  refine zv_iconst X (v := 0) dJ16_cardinality_0 rfl ?_
  refine zv_istore_n X (i := 1) (L' := [(1, .int (0)), (0, va_rf (some this))]) dJ16_cardinality_1 rfl (by decide) rfl ?_
  refine zv_iconst X (v := 0) dJ16_cardinality_2 rfl ?_
  refine zv_istore_n X (i := 2) (L' := [(2, .int (0)), (1, .int (0)), (0, va_rf (some this))]) dJ16_cardinality_3 rfl (by decide) rfl ?_
  refine zv_sub (L' := [(0, va_rf (some this)), (1, .int (0)), (2, .int (0))]) [2, 1, 0] rfl ?_
  obtain ⟨n3, h⟩ := h
  exact kl_J16_cardinality_4 X  n3 _ _ h
theorem kj_J19_numberOfTrailingZeros_74 {p : Program} {l : Launch} {e : Env} {s : State} {m : MethodId} {args : Array Value} {below : List Frame} {meth : Method} {c : Code} {D : zk_G} {g : zk_M} {b0 : Nat} (X : zk_X p s m args meth c D g b0 cJ19_numberOfTrailingZeros 2 "java/lang/Integer" "numberOfTrailingZeros" (some Jvm.ClassFile.FieldType.int)) {post : Int32 → Prop}  {a0 : Int32} {a1 : Int32} {P : zk_H}    (hh : wj_J19_numberOfTrailingZeros_74 post a0 a1) : zV p l e ({ frames := 0, cells := 0, slots := 0, locals := 0 } : Room) s m args below meth c D b0 2 (0) (0) (MQ below (va_Qi (fun r u => post r ∧ u = P) (zk_B D b0) (zk_A b0)) args s 0 0 (zk_A b0)) P 74 [(0, .int (a0)), (1, .int (a1))] [] := by
  have h := hh
  unfold wj_J19_numberOfTrailingZeros_74 at h
  refine zv_iload_n X 1 dJ19_numberOfTrailingZeros_74 rfl ?_
  refine zv_iload_n X 0 dJ19_numberOfTrailingZeros_75 rfl ?_
  refine zv_iconst X (v := 1) dJ19_numberOfTrailingZeros_76 rfl ?_
  refine zv_iushr X dJ19_numberOfTrailingZeros_77 ?_
  refine zv_iadd X dJ19_numberOfTrailingZeros_78 ?_
  exact zv_iret X rfl (by first | exact Nat.le_of_ble_eq_true rfl | omega | (dsimp only; omega)) (by first | exact Nat.le_of_ble_eq_true rfl | omega | (dsimp only; omega)) dJ19_numberOfTrailingZeros_79 ⟨h, rfl⟩
theorem kj_J19_numberOfTrailingZeros_62 {p : Program} {l : Launch} {e : Env} {s : State} {m : MethodId} {args : Array Value} {below : List Frame} {meth : Method} {c : Code} {D : zk_G} {g : zk_M} {b0 : Nat} (X : zk_X p s m args meth c D g b0 cJ19_numberOfTrailingZeros 2 "java/lang/Integer" "numberOfTrailingZeros" (some Jvm.ClassFile.FieldType.int)) {post : Int32 → Prop}  {a0 : Int32} {a1 : Int32} {P : zk_H}    (hh : wj_J19_numberOfTrailingZeros_62 post a0 a1) : zV p l e ({ frames := 0, cells := 0, slots := 0, locals := 0 } : Room) s m args below meth c D b0 2 (0) (0) (MQ below (va_Qi (fun r u => post r ∧ u = P) (zk_B D b0) (zk_A b0)) args s 0 0 (zk_A b0)) P 62 [(0, .int (a0)), (1, .int (a1))] [] := by
  have h := hh
  unfold wj_J19_numberOfTrailingZeros_62 at h
  refine zv_iload_n X 0 dJ19_numberOfTrailingZeros_62 rfl ?_
  refine zv_iconst X (v := 4) dJ19_numberOfTrailingZeros_63 rfl ?_
  refine zv_icmp_le X (tgt := 74) dJ19_numberOfTrailingZeros_64 (by decide) h (fun h => ?_) (fun h => ?_)
  · exact kj_J19_numberOfTrailingZeros_74 X  h
  · obtain ⟨v67, e67, h⟩ := zt_e h
    refine zv_iinc X (v := v67) (L' := [(1, .int (v67)), (0, .int (a0))]) 1 dJ19_numberOfTrailingZeros_67 rfl e67 (by decide) rfl ?_
    refine zv_iload_n X 1 dJ19_numberOfTrailingZeros_70 rfl ?_
    refine zv_iconst X (v := 2) dJ19_numberOfTrailingZeros_71 rfl ?_
    refine zv_iushr X dJ19_numberOfTrailingZeros_72 ?_
    refine zv_top_i h (fun v73 h => ?_)
    refine zv_istore_n X (i := 0) (L' := [(0, .int (v73)), (1, .int (v67))]) dJ19_numberOfTrailingZeros_73 rfl (by decide) rfl ?_
    exact kj_J19_numberOfTrailingZeros_74 X  h
theorem kj_J19_numberOfTrailingZeros_49 {p : Program} {l : Launch} {e : Env} {s : State} {m : MethodId} {args : Array Value} {below : List Frame} {meth : Method} {c : Code} {D : zk_G} {g : zk_M} {b0 : Nat} (X : zk_X p s m args meth c D g b0 cJ19_numberOfTrailingZeros 2 "java/lang/Integer" "numberOfTrailingZeros" (some Jvm.ClassFile.FieldType.int)) {post : Int32 → Prop}  {a0 : Int32} {a1 : Int32} {P : zk_H}    (hh : wj_J19_numberOfTrailingZeros_49 post a0 a1) : zV p l e ({ frames := 0, cells := 0, slots := 0, locals := 0 } : Room) s m args below meth c D b0 2 (0) (0) (MQ below (va_Qi (fun r u => post r ∧ u = P) (zk_B D b0) (zk_A b0)) args s 0 0 (zk_A b0)) P 49 [(0, .int (a0)), (1, .int (a1))] [] := by
  have h := hh
  unfold wj_J19_numberOfTrailingZeros_49 at h
  refine zv_iload_n X 0 dJ19_numberOfTrailingZeros_49 rfl ?_
  refine zv_bipush X (v := 16) dJ19_numberOfTrailingZeros_50 rfl ?_
  refine zv_icmp_le X (tgt := 62) dJ19_numberOfTrailingZeros_52 (by decide) h (fun h => ?_) (fun h => ?_)
  · exact kj_J19_numberOfTrailingZeros_62 X  h
  · obtain ⟨v55, e55, h⟩ := zt_e h
    refine zv_iinc X (v := v55) (L' := [(1, .int (v55)), (0, .int (a0))]) 1 dJ19_numberOfTrailingZeros_55 rfl e55 (by decide) rfl ?_
    refine zv_iload_n X 1 dJ19_numberOfTrailingZeros_58 rfl ?_
    refine zv_iconst X (v := 4) dJ19_numberOfTrailingZeros_59 rfl ?_
    refine zv_iushr X dJ19_numberOfTrailingZeros_60 ?_
    refine zv_top_i h (fun v61 h => ?_)
    refine zv_istore_n X (i := 0) (L' := [(0, .int (v61)), (1, .int (v55))]) dJ19_numberOfTrailingZeros_61 rfl (by decide) rfl ?_
    exact kj_J19_numberOfTrailingZeros_62 X  h
theorem kj_J19_numberOfTrailingZeros_34 {p : Program} {l : Launch} {e : Env} {s : State} {m : MethodId} {args : Array Value} {below : List Frame} {meth : Method} {c : Code} {D : zk_G} {g : zk_M} {b0 : Nat} (X : zk_X p s m args meth c D g b0 cJ19_numberOfTrailingZeros 2 "java/lang/Integer" "numberOfTrailingZeros" (some Jvm.ClassFile.FieldType.int)) {post : Int32 → Prop}  {a0 : Int32} {a1 : Int32} {P : zk_H}    (hh : wj_J19_numberOfTrailingZeros_34 post a0 a1) : zV p l e ({ frames := 0, cells := 0, slots := 0, locals := 0 } : Room) s m args below meth c D b0 2 (0) (0) (MQ below (va_Qi (fun r u => post r ∧ u = P) (zk_B D b0) (zk_A b0)) args s 0 0 (zk_A b0)) P 34 [(0, .int (a0)), (1, .int (a1))] [] := by
  have h := hh
  unfold wj_J19_numberOfTrailingZeros_34 at h
  refine zv_iload_n X 0 dJ19_numberOfTrailingZeros_34 rfl ?_
  refine zv_sipush X (v := 256) dJ19_numberOfTrailingZeros_35 rfl ?_
  refine zv_icmp_le X (tgt := 49) dJ19_numberOfTrailingZeros_38 (by decide) h (fun h => ?_) (fun h => ?_)
  · exact kj_J19_numberOfTrailingZeros_49 X  h
  · obtain ⟨v41, e41, h⟩ := zt_e h
    refine zv_iinc X (v := v41) (L' := [(1, .int (v41)), (0, .int (a0))]) 1 dJ19_numberOfTrailingZeros_41 rfl e41 (by decide) rfl ?_
    refine zv_iload_n X 1 dJ19_numberOfTrailingZeros_44 rfl ?_
    refine zv_bipush X (v := 8) dJ19_numberOfTrailingZeros_45 rfl ?_
    refine zv_iushr X dJ19_numberOfTrailingZeros_47 ?_
    refine zv_top_i h (fun v48 h => ?_)
    refine zv_istore_n X (i := 0) (L' := [(0, .int (v48)), (1, .int (v41))]) dJ19_numberOfTrailingZeros_48 rfl (by decide) rfl ?_
    exact kj_J19_numberOfTrailingZeros_49 X  h
theorem md_J19_numberOfTrailingZeros : yJ19_numberOfTrailingZeros.cls ≠ "java/lang/invoke/MethodHandle" ∧ yJ19_numberOfTrailingZeros.cls ≠ "java/lang/invoke/VarHandle" ∧ (parseMethodDescriptor yJ19_numberOfTrailingZeros.desc).map (fun d => d.parameters.length) = some 1 := by decide +kernel
theorem wk_J19_numberOfTrailingZeros (l : Launch) {D : zk_G} {g : zk_M} {b0 : Nat} {post : Int32 → Prop} {x0 : Int32} {P : zk_H} (hh : wp_J19_numberOfTrailingZeros post x0) : Met l yJ19_numberOfTrailingZeros (ws_ yJ19_numberOfTrailingZeros cJ19_numberOfTrailingZeros 2 (some Jvm.ClassFile.FieldType.int)) ({ frames := 0, cells := 0, slots := 0, locals := 0 } : Room) (va_Pc [.int (x0)] (zk_pre D g b0 P)) (va_Qi (fun r u => post r ∧ u = P) (zk_B D b0) (zk_A b0)) 0 0 (zk_A b0) := by
  refine zk_enter "java/lang/Integer" "numberOfTrailingZeros" rfl rfl (plainFor_of_name (by decide)) [.int (x0)] (Nat.le_of_ble_eq_true rfl) ?_
  intro p e s m args below meth c X
  refine zk_at0 (L' := [(0, .int (x0))]) (rfl) ?_
  have h := hh
  unfold wp_J19_numberOfTrailingZeros at h
  refine zv_iload_n X 0 dJ19_numberOfTrailingZeros_0 rfl ?_
  refine zv_iconst X (v := -1) dJ19_numberOfTrailingZeros_1 rfl ?_
  refine zv_ixor X dJ19_numberOfTrailingZeros_2 ?_
  refine zv_iload_n X 0 dJ19_numberOfTrailingZeros_3 rfl ?_
  refine zv_iconst X (v := 1) dJ19_numberOfTrailingZeros_4 rfl ?_
  refine zv_isub X dJ19_numberOfTrailingZeros_5 ?_
  refine zv_iand X dJ19_numberOfTrailingZeros_6 ?_
  refine zv_top_i h (fun v7 h => ?_)
  refine zv_istore_n X (i := 0) (L' := [(0, .int (v7))]) dJ19_numberOfTrailingZeros_7 rfl (by decide) rfl ?_
  refine zv_iload_n X 0 dJ19_numberOfTrailingZeros_8 rfl ?_
  refine zv_if_gt X (tgt := 17) dJ19_numberOfTrailingZeros_9 (by decide) h (fun h => ?_) (fun h => ?_)
  · refine zv_iconst X (v := 1) dJ19_numberOfTrailingZeros_17 rfl ?_
    refine zv_istore_n X (i := 1) (L' := [(1, .int (1)), (0, .int (v7))]) dJ19_numberOfTrailingZeros_18 rfl (by decide) rfl ?_
    refine zv_iload_n X 1 dJ19_numberOfTrailingZeros_19 rfl ?_
    refine zv_ldcw X q1540 dJ19_numberOfTrailingZeros_20 ?_
    refine zv_icmp_le X (tgt := 34) dJ19_numberOfTrailingZeros_23 (by decide) h (fun h => ?_) (fun h => ?_)
    · refine zv_sub (L' := [(0, .int (v7)), (1, .int (1))]) [1, 0] rfl ?_
      exact kj_J19_numberOfTrailingZeros_34 X  h
    · obtain ⟨v26, e26, h⟩ := zt_e h
      refine zv_iinc X (v := v26) (L' := [(1, .int (v26)), (0, .int (v7))]) 0 dJ19_numberOfTrailingZeros_26 rfl e26 (by decide) rfl ?_
      refine zv_iload_n X 1 dJ19_numberOfTrailingZeros_29 rfl ?_
      refine zv_bipush X (v := 16) dJ19_numberOfTrailingZeros_30 rfl ?_
      refine zv_iushr X dJ19_numberOfTrailingZeros_32 ?_
      refine zv_top_i h (fun v33 h => ?_)
      refine zv_istore_n X (i := 0) (L' := [(0, .int (v33)), (1, .int (v26))]) dJ19_numberOfTrailingZeros_33 rfl (by decide) rfl ?_
      exact kj_J19_numberOfTrailingZeros_34 X  h
  · refine zv_iload_n X 0 dJ19_numberOfTrailingZeros_12 rfl ?_
    refine zv_bipush X (v := 32) dJ19_numberOfTrailingZeros_13 rfl ?_
    refine zv_iand X dJ19_numberOfTrailingZeros_15 ?_
    exact zv_iret X rfl (by first | exact Nat.le_of_ble_eq_true rfl | omega | (dsimp only; omega)) (by first | exact Nat.le_of_ble_eq_true rfl | omega | (dsimp only; omega)) dJ19_numberOfTrailingZeros_16 ⟨h, rfl⟩
theorem md_J18_numberOfTrailingZeros : yJ18_numberOfTrailingZeros.cls ≠ "java/lang/invoke/MethodHandle" ∧ yJ18_numberOfTrailingZeros.cls ≠ "java/lang/invoke/VarHandle" ∧ (parseMethodDescriptor yJ18_numberOfTrailingZeros.desc).map (fun d => d.parameters.length) = some 1 := by decide +kernel
theorem wk_J18_numberOfTrailingZeros (l : Launch) {D : zk_G} {g : zk_M} {b0 : Nat} {post : Int32 → Prop} {x0 : Int64} {P : zk_H} (hh : wp_J18_numberOfTrailingZeros post x0) : Met l yJ18_numberOfTrailingZeros (ws_ yJ18_numberOfTrailingZeros cJ18_numberOfTrailingZeros 3 (some Jvm.ClassFile.FieldType.int)) ({ frames := 1, cells := 0, slots := 0, locals := 21 } : Room) (va_Pc [.long (x0)] (zk_pre D g b0 P)) (va_Qi (fun r u => post r ∧ u = P) (zk_B D b0) (zk_A b0)) 0 0 (zk_A b0) := by
  refine zk_enter "java/lang/Long" "numberOfTrailingZeros" rfl rfl (plainFor_of_name (by decide)) [.long (x0)] (Nat.le_of_ble_eq_true rfl) ?_
  intro p e s m args below meth c X
  refine zk_at0 (L' := [(0, .long (x0))]) (rfl) ?_
  have h := hh
  unfold wp_J18_numberOfTrailingZeros at h
  refine zv_lload_n X 0 dJ18_numberOfTrailingZeros_0 rfl ?_
  refine zv_l2i X dJ18_numberOfTrailingZeros_1 ?_
  refine zv_top_i h (fun v2 h => ?_)
  refine zv_istore_n X (i := 2) (L' := [(2, .int (v2)), (0, .long (x0))]) dJ18_numberOfTrailingZeros_2 rfl (by decide) rfl ?_
  refine zv_iload_n X 0 dJ18_numberOfTrailingZeros_3 rfl ?_
  refine zv_if_ne X (tgt := 21) dJ18_numberOfTrailingZeros_4 (by decide) h (fun h => ?_) (fun h => ?_)
  · refine zv_iload_n X 0 dJ18_numberOfTrailingZeros_21 rfl ?_
    refine zv_ciR ((zr_S X (As := [.int (v2)]) (rest := []) (wk_J19_numberOfTrailingZeros l h) (va_cwS 1 X.hts (lw_S q1537 q1538 q135 q1539) rfl rfl rfl md_J19_numberOfTrailingZeros ⟨Nat.le_of_ble_eq_true rfl, Nat.le_of_ble_eq_true rfl⟩) rfl rfl (zk_rs (Nat.le_of_ble_eq_true rfl)) dJ18_numberOfTrailingZeros_22 ⟨by first | exact Nat.le_of_ble_eq_true rfl | omega | (dsimp only; omega), by first | exact Nat.le_of_ble_eq_true rfl | omega | (dsimp only; omega)⟩)) (fun v22 h => ?_)
    exact zv_iret X rfl (by first | exact Nat.le_of_ble_eq_true rfl | omega | (dsimp only; omega)) (by first | exact Nat.le_of_ble_eq_true rfl | omega | (dsimp only; omega)) dJ18_numberOfTrailingZeros_25 ⟨h, rfl⟩
  · refine zv_bipush X (v := 32) dJ18_numberOfTrailingZeros_7 rfl ?_
    refine zv_lload_n X 1 dJ18_numberOfTrailingZeros_9 rfl ?_
    refine zv_bipush X (v := 32) dJ18_numberOfTrailingZeros_10 rfl ?_
    refine zv_lushr X dJ18_numberOfTrailingZeros_12 ?_
    refine zv_l2i X dJ18_numberOfTrailingZeros_13 ?_
    refine zv_ciR ((zr_S X (As := [.int (((x0.toUInt64 >>> ((32 : Int32).toInt64.toUInt64 &&& Int64.toUInt64 63)).toInt64).toInt32)]) (rest := [.int (32)]) (wk_J19_numberOfTrailingZeros l h) (va_cwS 1 X.hts (lw_S q1537 q1538 q135 q1539) rfl rfl rfl md_J19_numberOfTrailingZeros ⟨Nat.le_of_ble_eq_true rfl, Nat.le_of_ble_eq_true rfl⟩) rfl rfl (zk_rs (Nat.le_of_ble_eq_true rfl)) dJ18_numberOfTrailingZeros_14 ⟨by first | exact Nat.le_of_ble_eq_true rfl | omega | (dsimp only; omega), by first | exact Nat.le_of_ble_eq_true rfl | omega | (dsimp only; omega)⟩)) (fun v14 h => ?_)
    refine zv_iadd X dJ18_numberOfTrailingZeros_17 ?_
    refine zv_goto X (tgt := 25) dJ18_numberOfTrailingZeros_18 (by decide) ?_
    exact zv_iret X rfl (by first | exact Nat.le_of_ble_eq_true rfl | omega | (dsimp only; omega)) (by first | exact Nat.le_of_ble_eq_true rfl | omega | (dsimp only; omega)) dJ18_numberOfTrailingZeros_25 ⟨h, rfl⟩
theorem kb_J16_nextSetBit_63 {p : Program} {l : Launch} {e : Env} {s : State} {m : MethodId} {args : Array Value} {below : List Frame} {meth : Method} {c : Code} {D : zk_G} {g : zk_M} {b0 : Nat} (X : zk_X p s m args meth c D g b0 cJ16_nextSetBit 5 "java/util/BitSet" "nextSetBit" (some Jvm.ClassFile.FieldType.int)) {post : Int32 → Prop}  {K63 : Int32 → Int64 → Prop} {a0 : Option Nat} {a2 : Int32} {a3 : Int64} {P : zk_H}   (hK63 : ∀ (u2 : Int32) (u3 : Int64), K63 u2 u3 → zV p l e ({ frames := 2, cells := 0, slots := 0, locals := 43 } : Room) s m args below meth c D b0 5 (0) (0) (MQ below (va_Qi (fun r u => post r ∧ u = P) (zk_B D b0) (zk_A b0)) args s 0 0 (zk_A b0)) P 63 [(0, va_rf (a0)), (2, .int (u2)), (3, .long (u3))] [])  (hh : wb_J16_nextSetBit_63 post a0 P K63 a2 a3) : zV p l e ({ frames := 2, cells := 0, slots := 0, locals := 43 } : Room) s m args below meth c D b0 5 (0) (0) (MQ below (va_Qi (fun r u => post r ∧ u = P) (zk_B D b0) (zk_A b0)) args s 0 0 (zk_A b0)) P 63 [(0, va_rf (a0)), (2, .int (a2)), (3, .long (a3))] [] := by
  have h := hh
  unfold wb_J16_nextSetBit_63 at h
  refine zv_lload_n X 2 dJ16_nextSetBit_63 rfl ?_
  refine zv_lconst X (v := 0) dJ16_nextSetBit_64 rfl ?_
  refine zv_lcmp X dJ16_nextSetBit_65 ?_
  refine zv_if_eq X (tgt := 79) dJ16_nextSetBit_66 (by decide) h (fun h => ?_) (fun h => ?_)
  · obtain ⟨v79, e79, h⟩ := zt_e h
    refine zv_iinc X (v := v79) (L' := [(2, .int (v79)), (0, va_rf (a0)), (3, .long (a3))]) 1 dJ16_nextSetBit_79 rfl e79 (by decide) rfl ?_
    refine zv_iload_n X 0 dJ16_nextSetBit_82 rfl ?_
    refine zv_aload_n X 1 dJ16_nextSetBit_83 rfl ?_
    refine zv_getf_i X fo_q577 dJ16_nextSetBit_84 h (fun v84 h => ?_)
    refine zv_icmp_ne X (tgt := 92) dJ16_nextSetBit_87 (by decide) h (fun h => ?_) (fun h => ?_)
    · refine zv_aload_n X 1 dJ16_nextSetBit_92 rfl ?_
      refine zv_getf_r X fo_q576 dJ16_nextSetBit_93 h (fun v93 h => ?_)
      refine zv_iload_n X 0 dJ16_nextSetBit_96 rfl ?_
      refine zv_lald X dJ16_nextSetBit_97 h (fun v97 h => ?_)
      refine zv_lstore_n X (i := 3) (L' := [(3, .long (v97)), (2, .int (v79)), (0, va_rf (a0))]) dJ16_nextSetBit_98 rfl (by decide) rfl ?_
      refine zv_goto X (tgt := 63) dJ16_nextSetBit_99 (by decide) ?_
      refine zv_sub (L' := [(0, va_rf (a0)), (2, .int (v79)), (3, .long (v97))]) [2, 1, 0] rfl ?_
      exact hK63 _ _ h
    · refine zv_iconst X (v := -1) dJ16_nextSetBit_90 rfl ?_
      exact zv_iret X rfl (by first | exact Nat.le_of_ble_eq_true rfl | omega | (dsimp only; omega)) (by first | exact Nat.le_of_ble_eq_true rfl | omega | (dsimp only; omega)) dJ16_nextSetBit_91 ⟨h, rfl⟩
  · refine zv_iload_n X 1 dJ16_nextSetBit_69 rfl ?_
    refine zv_bipush X (v := 64) dJ16_nextSetBit_70 rfl ?_
    refine zv_imul X dJ16_nextSetBit_72 ?_
    refine zv_lload_n X 2 dJ16_nextSetBit_73 rfl ?_
    refine zv_ciR ((zr_S X (As := [.long (a3)]) (rest := [.int (a2 * 64)]) (wk_J18_numberOfTrailingZeros l h) (va_cwS 1 X.hts (lw_S q1534 q1535 q134 q1536) rfl rfl rfl md_J18_numberOfTrailingZeros ⟨Nat.le_of_ble_eq_true rfl, Nat.le_of_ble_eq_true rfl⟩) rfl rfl (zk_rs (Nat.le_of_ble_eq_true rfl)) dJ16_nextSetBit_74 ⟨by first | exact Nat.le_of_ble_eq_true rfl | omega | (dsimp only; omega), by first | exact Nat.le_of_ble_eq_true rfl | omega | (dsimp only; omega)⟩)) (fun v74 h => ?_)
    refine zv_iadd X dJ16_nextSetBit_77 ?_
    exact zv_iret X rfl (by first | exact Nat.le_of_ble_eq_true rfl | omega | (dsimp only; omega)) (by first | exact Nat.le_of_ble_eq_true rfl | omega | (dsimp only; omega)) dJ16_nextSetBit_78 ⟨h, rfl⟩
theorem kl_J16_nextSetBit_63 {p : Program} {l : Launch} {e : Env} {s : State} {m : MethodId} {args : Array Value} {below : List Frame} {meth : Method} {c : Code} {D : zk_G} {g : zk_M} {b0 : Nat} (X : zk_X p s m args meth c D g b0 cJ16_nextSetBit 5 "java/util/BitSet" "nextSetBit" (some Jvm.ClassFile.FieldType.int)) {post : Int32 → Prop}  {a0 : Option Nat} {P : zk_H}   : ∀ (n : Nat) (a2 : Int32) (a3 : Int64), wl_J16_nextSetBit_63 post a0 P n a2 a3 → zV p l e ({ frames := 2, cells := 0, slots := 0, locals := 43 } : Room) s m args below meth c D b0 5 (0) (0) (MQ below (va_Qi (fun r u => post r ∧ u = P) (zk_B D b0) (zk_A b0)) args s 0 0 (zk_A b0)) P 63 [(0, va_rf (a0)), (2, .int (a2)), (3, .long (a3))] [] := by
  intro n
  induction n with
  | zero => intro _ _ h; exact h.elim
  | succ n ih =>
    intro a2 a3 h
    exact kb_J16_nextSetBit_63 X  (fun u0 u1 h => ih _ _ h)  h
theorem md_J16_nextSetBit : yJ16_nextSetBit.cls ≠ "java/lang/invoke/MethodHandle" ∧ yJ16_nextSetBit.cls ≠ "java/lang/invoke/VarHandle" ∧ (parseMethodDescriptor yJ16_nextSetBit.desc).map (fun d => d.parameters.length) = some 1 := by decide +kernel
theorem wk_J16_nextSetBit (l : Launch) {D : zk_G} {g : zk_M} {b0 : Nat} {post : Int32 → Prop} {this : Nat} {x1 : Int32} {P : zk_H} (hh : wp_J16_nextSetBit post this x1 P) : Met l yJ16_nextSetBit (ws_ yJ16_nextSetBit cJ16_nextSetBit 5 (some Jvm.ClassFile.FieldType.int)) ({ frames := 2, cells := 0, slots := 0, locals := 43 } : Room) (va_Pc [.ref this, .int (x1)] (zk_pre D g b0 P)) (va_Qi (fun r u => post r ∧ u = P) (zk_B D b0) (zk_A b0)) 0 0 (zk_A b0) := by
  refine zk_enter "java/util/BitSet" "nextSetBit" rfl rfl (plainFor_of_name (by decide)) [.ref this, .int (x1)] (Nat.le_of_ble_eq_true rfl) ?_
  intro p e s m args below meth c X
  refine zk_at0 (L' := [(0, va_rf (some this)), (1, .int (x1))]) (rfl) ?_
  have h := hh
  unfold wp_J16_nextSetBit at h
  refine zv_iload_n X 1 dJ16_nextSetBit_0 rfl ?_
  refine zv_if_ge X (tgt := 31) dJ16_nextSetBit_1 (by decide) h (fun h => ?_) (fun h => ?_)
  · refine zv_aload_n X 0 dJ16_nextSetBit_31 rfl ?_
    refine zv_cvR ((zr_Vl X (As := []) (rest := []) h (fun a h => wk_J16_checkInvariants l h) (zk_l1 ⟨_, rfl, cwV 0 X.hts (lw_V q666 q668 qs6 q126 q669) rfl rfl rfl ⟨rfl, md_J16_checkInvariants⟩ ⟨Nat.le_of_ble_eq_true rfl, Nat.le_of_ble_eq_true rfl⟩⟩) rfl rfl (zk_rs (Nat.le_of_ble_eq_true rfl)) dJ16_nextSetBit_32 ⟨by first | exact Nat.le_of_ble_eq_true rfl | omega | (dsimp only; omega), by first | exact Nat.le_of_ble_eq_true rfl | omega | (dsimp only; omega)⟩)) (fun h => ?_)
    refine zv_iload_n X 1 dJ16_nextSetBit_35 rfl ?_
    refine zv_ciR ((zr_S X (As := [.int (x1)]) (rest := []) (wk_J16_wordIndex l h) (va_cwS 1 X.hts (lw_S q573 q574 q126 q575) rfl rfl rfl md_J16_wordIndex ⟨Nat.le_of_ble_eq_true rfl, Nat.le_of_ble_eq_true rfl⟩) rfl rfl (zk_rs (Nat.le_of_ble_eq_true rfl)) dJ16_nextSetBit_36 ⟨by first | exact Nat.le_of_ble_eq_true rfl | omega | (dsimp only; omega), by first | exact Nat.le_of_ble_eq_true rfl | omega | (dsimp only; omega)⟩)) (fun v36 h => ?_)
    refine zv_istore_n X (i := 2) (L' := [(2, .int (v36)), (0, va_rf (some this)), (1, .int (x1))]) dJ16_nextSetBit_39 rfl (by decide) rfl ?_
    refine zv_iload_n X 0 dJ16_nextSetBit_40 rfl ?_
    refine zv_aload_n X 1 dJ16_nextSetBit_41 rfl ?_
    refine zv_getf_i X fo_q577 dJ16_nextSetBit_42 h (fun v42 h => ?_)
    refine zv_icmp_lt X (tgt := 50) dJ16_nextSetBit_45 (by decide) h (fun h => ?_) (fun h => ?_)
    · refine zv_aload_n X 1 dJ16_nextSetBit_50 rfl ?_
      refine zv_getf_r X fo_q576 dJ16_nextSetBit_51 h (fun v51 h => ?_)
      refine zv_iload_n X 0 dJ16_nextSetBit_54 rfl ?_
      refine zv_lald X dJ16_nextSetBit_55 h (fun v55 h => ?_)
      refine zv_ldc2 X q1241 dJ16_nextSetBit_56 ?_
      refine zv_iload_n X 2 dJ16_nextSetBit_59 rfl ?_
      refine zv_lshl X dJ16_nextSetBit_60 ?_
      refine zv_land X dJ16_nextSetBit_61 ?_
      refine zv_top_l h (fun v62 h => ?_)
      refine zv_lstore_n X (i := 3) (L' := [(3, .long (v62)), (2, .int (v36)), (0, va_rf (some this)), (1, .int (x1))]) dJ16_nextSetBit_62 rfl (by decide) rfl ?_
      refine zv_sub (L' := [(0, va_rf (some this)), (2, .int (v36)), (3, .long (v62))]) [2, 1, 0] rfl ?_
      obtain ⟨n62, h⟩ := h
      exact kl_J16_nextSetBit_63 X  n62 _ _ h
    · refine zv_iconst X (v := -1) dJ16_nextSetBit_48 rfl ?_
      exact zv_iret X rfl (by first | exact Nat.le_of_ble_eq_true rfl | omega | (dsimp only; omega)) (by first | exact Nat.le_of_ble_eq_true rfl | omega | (dsimp only; omega)) dJ16_nextSetBit_49 ⟨h, rfl⟩
  · exact h.elim
theorem kb_J16_intersects_14 {p : Program} {l : Launch} {e : Env} {s : State} {m : MethodId} {args : Array Value} {below : List Frame} {meth : Method} {c : Code} {D : zk_G} {g : zk_M} {b0 : Nat} (X : zk_X p s m args meth c D g b0 cJ16_intersects 3 "java/util/BitSet" "intersects" (some Jvm.ClassFile.FieldType.boolean)) {post : Int32 → Prop}  {K14 : Int32 → Prop} {a0 : Option Nat} {a1 : Option Nat} {a2 : Int32} {P : zk_H}   (hK14 : ∀ (u2 : Int32), K14 u2 → zV p l e ({ frames := 1, cells := 0, slots := 0, locals := 21 } : Room) s m args below meth c D b0 3 (0) (0) (MQ below (va_Qi (fun r u => post r ∧ u = P) (zk_B D b0) (zk_A b0)) args s 0 0 (zk_A b0)) P 14 [(0, va_rf (a0)), (1, va_rf (a1)), (2, .int (u2))] [])  (hh : wb_J16_intersects_14 post a0 a1 P K14 a2) : zV p l e ({ frames := 1, cells := 0, slots := 0, locals := 21 } : Room) s m args below meth c D b0 3 (0) (0) (MQ below (va_Qi (fun r u => post r ∧ u = P) (zk_B D b0) (zk_A b0)) args s 0 0 (zk_A b0)) P 14 [(0, va_rf (a0)), (1, va_rf (a1)), (2, .int (a2))] [] := by
  have h := hh
  unfold wb_J16_intersects_14 at h
  refine zv_iload_n X 2 dJ16_intersects_14 rfl ?_
  refine zv_if_lt X (tgt := 44) dJ16_intersects_15 (by decide) h (fun h => ?_) (fun h => ?_)
  · refine zv_iconst X (v := 0) dJ16_intersects_44 rfl ?_
    exact zv_zret X (ty := .boolean) rfl (by first | exact Nat.le_of_ble_eq_true rfl | omega | (dsimp only; omega)) (by first | exact Nat.le_of_ble_eq_true rfl | omega | (dsimp only; omega)) dJ16_intersects_45 ⟨rfl, ⟨h, rfl⟩⟩
  · refine zv_aload_n X 0 dJ16_intersects_18 rfl ?_
    refine zv_getf_r X fo_q576 dJ16_intersects_19 h (fun v19 h => ?_)
    refine zv_iload_n X 2 dJ16_intersects_22 rfl ?_
    refine zv_lald X dJ16_intersects_23 h (fun v23 h => ?_)
    refine zv_aload_n X 1 dJ16_intersects_24 rfl ?_
    refine zv_getf_r X fo_q576 dJ16_intersects_25 h (fun v25 h => ?_)
    refine zv_iload_n X 2 dJ16_intersects_28 rfl ?_
    refine zv_lald X dJ16_intersects_29 h (fun v29 h => ?_)
    refine zv_land X dJ16_intersects_30 ?_
    refine zv_lconst X (v := 0) dJ16_intersects_31 rfl ?_
    refine zv_lcmp X dJ16_intersects_32 ?_
    refine zv_if_eq X (tgt := 38) dJ16_intersects_33 (by decide) h (fun h => ?_) (fun h => ?_)
    · obtain ⟨v38, e38, h⟩ := zt_e h
      refine zv_iinc X (v := v38) (L' := [(2, .int (v38)), (0, va_rf (a0)), (1, va_rf (a1))]) 2 dJ16_intersects_38 rfl e38 (by decide) (by simp [zk_s1, zk_rc, zk_ic, zk_jc]) ?_
      refine zv_goto X (tgt := 14) dJ16_intersects_41 (by decide) ?_
      refine zv_sub (L' := [(0, va_rf (a0)), (1, va_rf (a1)), (2, .int (v38))]) [1, 2, 0] rfl ?_
      exact hK14 _ h
    · refine zv_iconst X (v := 1) dJ16_intersects_36 rfl ?_
      exact zv_zret X (ty := .boolean) rfl (by first | exact Nat.le_of_ble_eq_true rfl | omega | (dsimp only; omega)) (by first | exact Nat.le_of_ble_eq_true rfl | omega | (dsimp only; omega)) dJ16_intersects_37 ⟨rfl, ⟨h, rfl⟩⟩
theorem kl_J16_intersects_14 {p : Program} {l : Launch} {e : Env} {s : State} {m : MethodId} {args : Array Value} {below : List Frame} {meth : Method} {c : Code} {D : zk_G} {g : zk_M} {b0 : Nat} (X : zk_X p s m args meth c D g b0 cJ16_intersects 3 "java/util/BitSet" "intersects" (some Jvm.ClassFile.FieldType.boolean)) {post : Int32 → Prop}  {a0 : Option Nat} {a1 : Option Nat} {P : zk_H}   : ∀ (n : Nat) (a2 : Int32), wl_J16_intersects_14 post a0 a1 P n a2 → zV p l e ({ frames := 1, cells := 0, slots := 0, locals := 21 } : Room) s m args below meth c D b0 3 (0) (0) (MQ below (va_Qi (fun r u => post r ∧ u = P) (zk_B D b0) (zk_A b0)) args s 0 0 (zk_A b0)) P 14 [(0, va_rf (a0)), (1, va_rf (a1)), (2, .int (a2))] [] := by
  intro n
  induction n with
  | zero => intro _ h; exact h.elim
  | succ n ih =>
    intro a2 h
    exact kb_J16_intersects_14 X  (fun u0 h => ih _ h)  h
theorem md_J16_intersects : yJ16_intersects.cls ≠ "java/lang/invoke/MethodHandle" ∧ yJ16_intersects.cls ≠ "java/lang/invoke/VarHandle" ∧ (parseMethodDescriptor yJ16_intersects.desc).map (fun d => d.parameters.length) = some 1 := by decide +kernel
theorem wk_J16_intersects (l : Launch) {D : zk_G} {g : zk_M} {b0 : Nat} {post : Int32 → Prop} {this : Nat} {x1 : Option Nat} {P : zk_H} (hh : wp_J16_intersects post this x1 P) : Met l yJ16_intersects (ws_ yJ16_intersects cJ16_intersects 3 (some Jvm.ClassFile.FieldType.boolean)) ({ frames := 1, cells := 0, slots := 0, locals := 21 } : Room) (va_Pc [.ref this, va_rf (x1)] (zk_pre D g b0 P)) (va_Qi (fun r u => post r ∧ u = P) (zk_B D b0) (zk_A b0)) 0 0 (zk_A b0) := by
  refine zk_enter "java/util/BitSet" "intersects" rfl rfl (plainFor_of_name (by decide)) [.ref this, va_rf (x1)] (by cases x1 <;> exact Nat.le_of_ble_eq_true rfl) ?_
  intro p e s m args below meth c X
  refine zk_at0 (L' := [(0, va_rf (some this)), (1, va_rf (x1))]) (by cases x1 <;> rfl) ?_
  have h := hh
  unfold wp_J16_intersects at h
  refine zv_aload_n X 0 dJ16_intersects_0 rfl ?_
  refine zv_getf_i X fo_q577 dJ16_intersects_1 h (fun v1 h => ?_)
  refine zv_aload_n X 1 dJ16_intersects_4 rfl ?_
  refine zv_getf_i X fo_q577 dJ16_intersects_5 h (fun v5 h => ?_)
  refine zv_mmin X q649 ⟨by first | decide | (dsimp only; decide), by first | decide | (dsimp only; decide)⟩ (zk_rs (Nat.le_of_ble_eq_true rfl)) (by first | exact Nat.le_of_ble_eq_true rfl | dsimp only; omega) (by first | exact Nat.le_of_ble_eq_true rfl | dsimp only; omega) dJ16_intersects_8 ?_
  refine zv_iconst X (v := 1) dJ16_intersects_11 rfl ?_
  refine zv_isub X dJ16_intersects_12 ?_
  refine zv_top_i h (fun v13 h => ?_)
  refine zv_istore_n X (i := 2) (L' := [(2, .int (v13)), (0, va_rf (some this)), (1, va_rf (x1))]) dJ16_intersects_13 rfl (by decide) (by simp [zk_s1, zk_s2, zk_rc, zk_ic, zk_jc]) ?_
  refine zv_sub (L' := [(0, va_rf (some this)), (1, va_rf (x1)), (2, .int (v13))]) [1, 2, 0] rfl ?_
  obtain ⟨n13, h⟩ := h
  exact kl_J16_intersects_14 X  n13 _ h
theorem md_J9_checkIndex : yJ9_checkIndex.cls ≠ "java/lang/invoke/MethodHandle" ∧ yJ9_checkIndex.cls ≠ "java/lang/invoke/VarHandle" ∧ (parseMethodDescriptor yJ9_checkIndex.desc).map (fun d => d.parameters.length) = some 2 := by decide +kernel
theorem wk_J9_checkIndex (l : Launch) {D : zk_G} {g : zk_M} {b0 : Nat} {post : Prop} {x0 : Int32} {x1 : Int32} {P : zk_H} (hh : wp_J9_checkIndex g post x0 x1) : Met l yJ9_checkIndex (ws_ yJ9_checkIndex cJ9_checkIndex 2 none) ({ frames := 1, cells := 0, slots := 0, locals := 22 } : Room) (va_Pc [.int (x0), .int (x1)] (zk_pre D g b0 P)) (va_Qv (fun u => post ∧ u = P) (zk_B D b0) (zk_A b0)) 0 0 (zk_A b0) := by
  refine zk_enter "java/lang/String" "checkIndex" rfl rfl (plainFor_of_name (by decide)) [.int (x0), .int (x1)] (Nat.le_of_ble_eq_true rfl) ?_
  intro p e s m args below meth c X
  refine zk_at0 (L' := [(0, .int (x0)), (1, .int (x1))]) (rfl) ?_
  have h := hh
  unfold wp_J9_checkIndex at h
  refine zv_iload_n X 0 dJ9_checkIndex_0 rfl ?_
  refine zv_iload_n X 1 dJ9_checkIndex_1 rfl ?_
  refine zv_gets X (i := 6) rfl q840 rfl dJ9_checkIndex_2 ?_
  refine zv_ciR ((zr_S X (As := [.int (x0), .int (x1), va_rf (zk_oo g 32)]) (rest := []) (wk_J12_checkIndex l h) (va_cwS 3 X.hts (lw_S q863 q513 q121 q514) rfl rfl rfl md_J12_checkIndex ⟨Nat.le_of_ble_eq_true rfl, Nat.le_of_ble_eq_true rfl⟩) rfl rfl (zk_rs (Nat.le_of_ble_eq_true rfl)) dJ9_checkIndex_5 ⟨by first | exact Nat.le_of_ble_eq_true rfl | omega | (dsimp only; omega), by first | exact Nat.le_of_ble_eq_true rfl | omega | (dsimp only; omega)⟩)) (fun v5 h => ?_)
  refine zv_pop X dJ9_checkIndex_8 rfl ?_
  exact zv_vret X rfl (by first | exact Nat.le_of_ble_eq_true rfl | omega | (dsimp only; omega)) (by first | exact Nat.le_of_ble_eq_true rfl | omega | (dsimp only; omega)) dJ9_checkIndex_9 ⟨h, rfl⟩
theorem md_J11_charAt : yJ11_charAt.cls ≠ "java/lang/invoke/MethodHandle" ∧ yJ11_charAt.cls ≠ "java/lang/invoke/VarHandle" ∧ (parseMethodDescriptor yJ11_charAt.desc).map (fun d => d.parameters.length) = some 2 := by decide +kernel
theorem wk_J11_charAt (l : Launch) {D : zk_G} {g : zk_M} {b0 : Nat} {post : Int32 → Prop} {x0 : Option Nat} {x1 : Int32} {P : zk_H} (hh : wp_J11_charAt g post x0 x1 P) : Met l yJ11_charAt (ws_ yJ11_charAt cJ11_charAt 2 (some Jvm.ClassFile.FieldType.char)) ({ frames := 2, cells := 0, slots := 0, locals := 43 } : Room) (va_Pc [va_rf (x0), .int (x1)] (zk_pre D g b0 P)) (va_Qi (fun r u => post r ∧ u = P) (zk_B D b0) (zk_A b0)) 0 0 (zk_A b0) := by
  refine zk_enter "java/lang/StringLatin1" "charAt" rfl rfl (plainFor_of_name (by decide)) [va_rf (x0), .int (x1)] (by cases x0 <;> exact Nat.le_of_ble_eq_true rfl) ?_
  intro p e s m args below meth c X
  refine zk_at0 (L' := [(0, va_rf (x0)), (1, .int (x1))]) (by cases x0 <;> rfl) ?_
  have h := hh
  unfold wp_J11_charAt at h
  refine zv_iload_n X 1 dJ11_charAt_0 rfl ?_
  refine zv_aload_n X 0 dJ11_charAt_1 rfl ?_
  refine zv_alen X dJ11_charAt_2 h (fun v2 h => ?_)
  refine zv_cvR ((zr_S X (As := [.int (x1), .int (v2)]) (rest := []) (wk_J9_checkIndex l h) (va_cwS 2 X.hts (lw_S q1779 q861 q118 q862) rfl rfl rfl md_J9_checkIndex ⟨Nat.le_of_ble_eq_true rfl, Nat.le_of_ble_eq_true rfl⟩) rfl rfl (zk_rs (Nat.le_of_ble_eq_true rfl)) dJ11_charAt_3 ⟨by first | exact Nat.le_of_ble_eq_true rfl | omega | (dsimp only; omega), by first | exact Nat.le_of_ble_eq_true rfl | omega | (dsimp only; omega)⟩)) (fun h => ?_)
  refine zv_aload_n X 0 dJ11_charAt_6 rfl ?_
  refine zv_iload_n X 1 dJ11_charAt_7 rfl ?_
  refine zv_bald X dJ11_charAt_8 h (fun v8 h => ?_)
  refine zv_sipush X (v := 255) dJ11_charAt_9 rfl ?_
  refine zv_iand X dJ11_charAt_12 ?_
  refine zv_i2c X dJ11_charAt_13 ?_
  obtain ⟨hb, h⟩ := h
  exact zv_zret X (ty := .char) rfl (by first | exact Nat.le_of_ble_eq_true rfl | omega | (dsimp only; omega)) (by first | exact Nat.le_of_ble_eq_true rfl | omega | (dsimp only; omega)) dJ11_charAt_14 ⟨hb, ⟨h, rfl⟩⟩
theorem md_J9_charAt : yJ9_charAt.cls ≠ "java/lang/invoke/MethodHandle" ∧ yJ9_charAt.cls ≠ "java/lang/invoke/VarHandle" ∧ (parseMethodDescriptor yJ9_charAt.desc).map (fun d => d.parameters.length) = some 1 := by decide +kernel
theorem wk_J9_charAt (l : Launch) {D : zk_G} {g : zk_M} {b0 : Nat} {post : Int32 → Prop} {this : Nat} {x1 : Int32} {P : zk_H} (hh : wp_J9_charAt g post this x1 P) : Met l yJ9_charAt (ws_ yJ9_charAt cJ9_charAt 2 (some Jvm.ClassFile.FieldType.char)) ({ frames := 3, cells := 0, slots := 0, locals := 64 } : Room) (va_Pc [.ref this, .int (x1)] (zk_pre D g b0 P)) (va_Qi (fun r u => post r ∧ u = P) (zk_B D b0) (zk_A b0)) 0 0 (zk_A b0) := by
  refine zk_enter "java/lang/String" "charAt" rfl rfl (plainFor_of_name (by decide)) [.ref this, .int (x1)] (Nat.le_of_ble_eq_true rfl) ?_
  intro p e s m args below meth c X
  refine zk_at0 (L' := [(0, va_rf (some this)), (1, .int (x1))]) (rfl) ?_
  have h := hh
  unfold wp_J9_charAt at h
  refine zv_aload_n X 0 dJ9_charAt_0 rfl ?_
  refine zv_ciR ((zr_Vl X (As := []) (rest := []) h (fun a h => wk_J9_isLatin1 l h) (zk_l1 ⟨_, rfl, cwV 0 X.hts (lw_V q927 q928 q929 q118 q930) rfl rfl rfl ⟨rfl, md_J9_isLatin1⟩ ⟨Nat.le_of_ble_eq_true rfl, Nat.le_of_ble_eq_true rfl⟩⟩) rfl rfl (zk_rs (Nat.le_of_ble_eq_true rfl)) dJ9_charAt_1 ⟨by first | exact Nat.le_of_ble_eq_true rfl | omega | (dsimp only; omega), by first | exact Nat.le_of_ble_eq_true rfl | omega | (dsimp only; omega)⟩)) (fun v1 h => ?_)
  refine zv_if_eq X (tgt := 16) dJ9_charAt_4 (by decide) h (fun h => ?_) (fun h => ?_)
  · refine zv_aload_n X 0 dJ9_charAt_16 rfl ?_
    refine zv_getf_r X fo_q907 dJ9_charAt_17 h (fun v17 h => ?_)
    refine zv_iload_n X 1 dJ9_charAt_20 rfl ?_
    exact h.elim
  · refine zv_aload_n X 0 dJ9_charAt_7 rfl ?_
    refine zv_getf_r X fo_q907 dJ9_charAt_8 h (fun v8 h => ?_)
    refine zv_iload_n X 1 dJ9_charAt_11 rfl ?_
    refine zv_ciR ((zr_S X (As := [va_rf (v8), .int (x1)]) (rest := []) (wk_J11_charAt l h) (va_cwS 2 X.hts (lw_S q1776 q1777 q120 q1778) rfl rfl rfl md_J11_charAt ⟨Nat.le_of_ble_eq_true rfl, Nat.le_of_ble_eq_true rfl⟩) rfl rfl (zk_rs (Nat.le_of_ble_eq_true rfl)) dJ9_charAt_12 ⟨by first | exact Nat.le_of_ble_eq_true rfl | omega | (dsimp only; omega), by first | exact Nat.le_of_ble_eq_true rfl | omega | (dsimp only; omega)⟩)) (fun v12 h => ?_)
    obtain ⟨hb, h⟩ := h
    exact zv_zret X (ty := .char) rfl (by first | exact Nat.le_of_ble_eq_true rfl | omega | (dsimp only; omega)) (by first | exact Nat.le_of_ble_eq_true rfl | omega | (dsimp only; omega)) dJ9_charAt_15 ⟨hb, ⟨h, rfl⟩⟩
theorem md_J7_charAt : yJ7_charAt.cls ≠ "java/lang/invoke/MethodHandle" ∧ yJ7_charAt.cls ≠ "java/lang/invoke/VarHandle" ∧ (parseMethodDescriptor yJ7_charAt.desc).map (fun d => d.parameters.length) = some 1 := by decide +kernel
theorem wk_J7_charAt (l : Launch) {D : zk_G} {g : zk_M} {b0 : Nat} {post : Int32 → Prop} {this : Nat} {x1 : Int32} {P : zk_H} (hh : wp_J7_charAt g post this x1 P) : Met l yJ7_charAt (ws_ yJ7_charAt cJ7_charAt 5 (some Jvm.ClassFile.FieldType.char)) ({ frames := 2, cells := 0, slots := 0, locals := 43 } : Room) (va_Pc [.ref this, .int (x1)] (zk_pre D g b0 P)) (va_Qi (fun r u => post r ∧ u = P) (zk_B D b0) (zk_A b0)) 0 0 (zk_A b0) := by
  refine zk_enter "java/lang/AbstractStringBuilder" "charAt" rfl rfl (plainFor_of_name (by decide)) [.ref this, .int (x1)] (Nat.le_of_ble_eq_true rfl) ?_
  intro p e s m args below meth c X
  refine zk_at0 (L' := [(0, va_rf (some this)), (1, .int (x1))]) (rfl) ?_
  have h := hh
  unfold wp_J7_charAt at h
  refine zv_aload_n X 0 dJ7_charAt_0 rfl ?_
  refine zv_getf_i X fo_q769 dJ7_charAt_1 h (fun v1 h => ?_)
  refine zv_istore_n X (i := 2) (L' := [(2, .int (v1)), (0, va_rf (some this)), (1, .int (x1))]) dJ7_charAt_4 rfl (by decide) rfl ?_
  refine zv_aload_n X 1 dJ7_charAt_5 rfl ?_
  refine zv_getf_r X fo_q768 dJ7_charAt_6 h (fun v6 h => ?_)
  refine zv_astore_n X (i := 3) (L' := [(3, va_rf (v6)), (2, .int (v1)), (0, va_rf (some this)), (1, .int (x1))]) dJ7_charAt_9 rfl (by decide) rfl ?_
  refine zv_aload_n X 2 dJ7_charAt_10 rfl ?_
  refine zv_getf_i X fo_q771 dJ7_charAt_11 h (fun v11 h => ?_)
  refine zv_aload_n X 0 dJ7_charAt_14 rfl ?_
  refine zv_alen X dJ7_charAt_15 h (fun v15 h => ?_)
  refine zv_iload_n X 1 dJ7_charAt_16 rfl ?_
  refine zv_ishr X dJ7_charAt_17 ?_
  refine zv_mmin X q1909 ⟨by first | decide | (dsimp only; decide), by first | decide | (dsimp only; decide)⟩ (zk_rs (Nat.le_of_ble_eq_true rfl)) (by first | exact Nat.le_of_ble_eq_true rfl | dsimp only; omega) (by first | exact Nat.le_of_ble_eq_true rfl | dsimp only; omega) dJ7_charAt_18 ?_
  refine zv_top_i h (fun v21 h => ?_)
  refine zv_istore X (L' := [(4, .int (v21)), (3, va_rf (v6)), (2, .int (v1)), (0, va_rf (some this)), (1, .int (x1))]) dJ7_charAt_21 (by decide) (by simp [zk_s1, zk_s2, zk_rc, zk_ic, zk_jc]) ?_
  refine zv_iload_n X 4 dJ7_charAt_23 rfl ?_
  refine zv_iload X 0 dJ7_charAt_24 rfl ?_
  refine zv_cvR ((zr_S X (As := [.int (x1), .int (v21)]) (rest := []) (wk_J9_checkIndex l h) (va_cwS 2 X.hts (lw_S q1910 q861 q118 q862) rfl rfl rfl md_J9_checkIndex ⟨Nat.le_of_ble_eq_true rfl, Nat.le_of_ble_eq_true rfl⟩) rfl rfl (zk_rs (Nat.le_of_ble_eq_true rfl)) dJ7_charAt_26 ⟨by first | exact Nat.le_of_ble_eq_true rfl | omega | (dsimp only; omega), by first | exact Nat.le_of_ble_eq_true rfl | omega | (dsimp only; omega)⟩)) (fun h => ?_)
  refine zv_iload_n X 2 dJ7_charAt_29 rfl ?_
  refine zv_if_ne X (tgt := 42) dJ7_charAt_30 (by decide) h (fun h => ?_) (fun h => ?_)
  · refine zv_aload_n X 1 dJ7_charAt_42 rfl ?_
    refine zv_iload_n X 4 dJ7_charAt_43 rfl ?_
    exact h.elim
  · refine zv_aload_n X 1 dJ7_charAt_33 rfl ?_
    refine zv_iload_n X 4 dJ7_charAt_34 rfl ?_
    refine zv_bald X dJ7_charAt_35 h (fun v35 h => ?_)
    refine zv_sipush X (v := 255) dJ7_charAt_36 rfl ?_
    refine zv_iand X dJ7_charAt_39 ?_
    refine zv_i2c X dJ7_charAt_40 ?_
    obtain ⟨hb, h⟩ := h
    exact zv_zret X (ty := .char) rfl (by first | exact Nat.le_of_ble_eq_true rfl | omega | (dsimp only; omega)) (by first | exact Nat.le_of_ble_eq_true rfl | omega | (dsimp only; omega)) dJ7_charAt_41 ⟨hb, ⟨h, rfl⟩⟩
theorem md_J8_charAt : yJ8_charAt.cls ≠ "java/lang/invoke/MethodHandle" ∧ yJ8_charAt.cls ≠ "java/lang/invoke/VarHandle" ∧ (parseMethodDescriptor yJ8_charAt.desc).map (fun d => d.parameters.length) = some 1 := by decide +kernel
theorem wk_J8_charAt (l : Launch) {D : zk_G} {g : zk_M} {b0 : Nat} {post : Int32 → Prop} {this : Nat} {x1 : Int32} {P : zk_H} (hh : wp_J8_charAt g post this x1 P) : Met l yJ8_charAt (ws_ yJ8_charAt cJ8_charAt 2 (some Jvm.ClassFile.FieldType.char)) ({ frames := 3, cells := 0, slots := 0, locals := 67 } : Room) (va_Pc [.ref this, .int (x1)] (zk_pre D g b0 P)) (va_Qi (fun r u => post r ∧ u = P) (zk_B D b0) (zk_A b0)) 0 0 (zk_A b0) := by
  refine zk_enter "java/lang/StringBuilder" "charAt" rfl rfl (plainFor_of_name (by decide)) [.ref this, .int (x1)] (Nat.le_of_ble_eq_true rfl) ?_
  intro p e s m args below meth c X
  refine zk_at0 (L' := [(0, va_rf (some this)), (1, .int (x1))]) (rfl) ?_
  have h := hh
  unfold wp_J8_charAt at h
  refine zv_aload_n X 0 dJ8_charAt_0 rfl ?_
  refine zv_iload_n X 1 dJ8_charAt_1 rfl ?_
  refine zv_ciR ((zr_P X (As := [.int (x1)]) (rest := []) h (fun a h => wk_J7_charAt l h) (va_cwSU 1 X.hts (zk_wsSU q1906 q2609 q780 q1907 q116 q1908) rfl rfl rfl ⟨by decide, md_J7_charAt.2.2⟩ ⟨Nat.le_of_ble_eq_true rfl, Nat.le_of_ble_eq_true rfl⟩) rfl rfl (zk_rs (Nat.le_of_ble_eq_true rfl)) dJ8_charAt_2 ⟨by first | exact Nat.le_of_ble_eq_true rfl | omega | (dsimp only; omega), by first | exact Nat.le_of_ble_eq_true rfl | omega | (dsimp only; omega)⟩)) (fun v2 h => ?_)
  obtain ⟨hb, h⟩ := h
  exact zv_zret X (ty := .char) rfl (by first | exact Nat.le_of_ble_eq_true rfl | omega | (dsimp only; omega)) (by first | exact Nat.le_of_ble_eq_true rfl | omega | (dsimp only; omega)) dJ8_charAt_5 ⟨hb, ⟨h, rfl⟩⟩
theorem kb_J19_stringSize_16 {p : Program} {l : Launch} {e : Env} {s : State} {m : MethodId} {args : Array Value} {below : List Frame} {meth : Method} {c : Code} {D : zk_G} {g : zk_M} {b0 : Nat} (X : zk_X p s m args meth c D g b0 cJ19_stringSize 4 "java/lang/Integer" "stringSize" (some Jvm.ClassFile.FieldType.int)) {post : Int32 → Prop}  {K16 : Int32 → Int32 → Prop} {a0 : Int32} {a1 : Int32} {a2 : Int32} {a3 : Int32} {P : zk_H}   (hK16 : ∀ (u2 : Int32) (u3 : Int32), K16 u2 u3 → zV p l e ({ frames := 0, cells := 0, slots := 0, locals := 0 } : Room) s m args below meth c D b0 4 (0) (0) (MQ below (va_Qi (fun r u => post r ∧ u = P) (zk_B D b0) (zk_A b0)) args s 0 0 (zk_A b0)) P 16 [(0, .int (a0)), (1, .int (a1)), (2, .int (u2)), (3, .int (u3))] [])  (hh : wb_J19_stringSize_16 post a0 a1 K16 a2 a3) : zV p l e ({ frames := 0, cells := 0, slots := 0, locals := 0 } : Room) s m args below meth c D b0 4 (0) (0) (MQ below (va_Qi (fun r u => post r ∧ u = P) (zk_B D b0) (zk_A b0)) args s 0 0 (zk_A b0)) P 16 [(0, .int (a0)), (1, .int (a1)), (2, .int (a2)), (3, .int (a3))] [] := by
  have h := hh
  unfold wb_J19_stringSize_16 at h
  refine zv_iload_n X 3 dJ19_stringSize_16 rfl ?_
  refine zv_bipush X (v := 10) dJ19_stringSize_17 rfl ?_
  refine zv_icmp_ge X (tgt := 42) dJ19_stringSize_19 (by decide) h (fun h => ?_) (fun h => ?_)
  · refine zv_bipush X (v := 10) dJ19_stringSize_42 rfl ?_
    refine zv_iload_n X 1 dJ19_stringSize_44 rfl ?_
    refine zv_iadd X dJ19_stringSize_45 ?_
    exact zv_iret X rfl (by first | exact Nat.le_of_ble_eq_true rfl | omega | (dsimp only; omega)) (by first | exact Nat.le_of_ble_eq_true rfl | omega | (dsimp only; omega)) dJ19_stringSize_46 ⟨h, rfl⟩
  · refine zv_iload_n X 0 dJ19_stringSize_22 rfl ?_
    refine zv_iload_n X 2 dJ19_stringSize_23 rfl ?_
    refine zv_icmp_le X (tgt := 31) dJ19_stringSize_24 (by decide) h (fun h => ?_) (fun h => ?_)
    · refine zv_bipush X (v := 10) dJ19_stringSize_31 rfl ?_
      refine zv_iload_n X 2 dJ19_stringSize_33 rfl ?_
      refine zv_imul X dJ19_stringSize_34 ?_
      refine zv_top_i h (fun v35 h => ?_)
      refine zv_istore_n X (i := 2) (L' := [(2, .int (v35)), (0, .int (a0)), (1, .int (a1)), (3, .int (a3))]) dJ19_stringSize_35 rfl (by decide) rfl ?_
      obtain ⟨v36, e36, h⟩ := zt_e h
      refine zv_iinc X (v := v36) (L' := [(3, .int (v36)), (2, .int (v35)), (0, .int (a0)), (1, .int (a1))]) 3 dJ19_stringSize_36 rfl e36 (by decide) rfl ?_
      refine zv_goto X (tgt := 16) dJ19_stringSize_39 (by decide) ?_
      refine zv_sub (L' := [(0, .int (a0)), (1, .int (a1)), (2, .int (v35)), (3, .int (v36))]) [2, 3, 1, 0] rfl ?_
      exact hK16 _ _ h
    · refine zv_iload_n X 3 dJ19_stringSize_27 rfl ?_
      refine zv_iload_n X 1 dJ19_stringSize_28 rfl ?_
      refine zv_iadd X dJ19_stringSize_29 ?_
      exact zv_iret X rfl (by first | exact Nat.le_of_ble_eq_true rfl | omega | (dsimp only; omega)) (by first | exact Nat.le_of_ble_eq_true rfl | omega | (dsimp only; omega)) dJ19_stringSize_30 ⟨h, rfl⟩
theorem kl_J19_stringSize_16 {p : Program} {l : Launch} {e : Env} {s : State} {m : MethodId} {args : Array Value} {below : List Frame} {meth : Method} {c : Code} {D : zk_G} {g : zk_M} {b0 : Nat} (X : zk_X p s m args meth c D g b0 cJ19_stringSize 4 "java/lang/Integer" "stringSize" (some Jvm.ClassFile.FieldType.int)) {post : Int32 → Prop}  {a0 : Int32} {a1 : Int32} {P : zk_H}   : ∀ (n : Nat) (a2 : Int32) (a3 : Int32), wl_J19_stringSize_16 post a0 a1 n a2 a3 → zV p l e ({ frames := 0, cells := 0, slots := 0, locals := 0 } : Room) s m args below meth c D b0 4 (0) (0) (MQ below (va_Qi (fun r u => post r ∧ u = P) (zk_B D b0) (zk_A b0)) args s 0 0 (zk_A b0)) P 16 [(0, .int (a0)), (1, .int (a1)), (2, .int (a2)), (3, .int (a3))] [] := by
  intro n
  induction n with
  | zero => intro _ _ h; exact h.elim
  | succ n ih =>
    intro a2 a3 h
    exact kb_J19_stringSize_16 X  (fun u0 u1 h => ih _ _ h)  h
theorem kj_J19_stringSize_11 {p : Program} {l : Launch} {e : Env} {s : State} {m : MethodId} {args : Array Value} {below : List Frame} {meth : Method} {c : Code} {D : zk_G} {g : zk_M} {b0 : Nat} (X : zk_X p s m args meth c D g b0 cJ19_stringSize 4 "java/lang/Integer" "stringSize" (some Jvm.ClassFile.FieldType.int)) {post : Int32 → Prop}  {a0 : Int32} {a1 : Int32} {P : zk_H}    (hh : wj_J19_stringSize_11 post a0 a1) : zV p l e ({ frames := 0, cells := 0, slots := 0, locals := 0 } : Room) s m args below meth c D b0 4 (0) (0) (MQ below (va_Qi (fun r u => post r ∧ u = P) (zk_B D b0) (zk_A b0)) args s 0 0 (zk_A b0)) P 11 [(0, .int (a0)), (1, .int (a1))] [] := by
  have h := hh
  unfold wj_J19_stringSize_11 at h
  refine zv_bipush X (v := -10) dJ19_stringSize_11 rfl ?_
  refine zv_istore_n X (i := 2) (L' := [(2, .int (-10)), (0, .int (a0)), (1, .int (a1))]) dJ19_stringSize_13 rfl (by decide) rfl ?_
  refine zv_iconst X (v := 1) dJ19_stringSize_14 rfl ?_
  refine zv_istore_n X (i := 3) (L' := [(3, .int (1)), (2, .int (-10)), (0, .int (a0)), (1, .int (a1))]) dJ19_stringSize_15 rfl (by decide) rfl ?_
  refine zv_sub (L' := [(0, .int (a0)), (1, .int (a1)), (2, .int (-10)), (3, .int (1))]) [2, 3, 1, 0] rfl ?_
  obtain ⟨n15, h⟩ := h
  exact kl_J19_stringSize_16 X  n15 _ _ h
theorem md_J19_stringSize : yJ19_stringSize.cls ≠ "java/lang/invoke/MethodHandle" ∧ yJ19_stringSize.cls ≠ "java/lang/invoke/VarHandle" ∧ (parseMethodDescriptor yJ19_stringSize.desc).map (fun d => d.parameters.length) = some 1 := by decide +kernel
theorem wk_J19_stringSize (l : Launch) {D : zk_G} {g : zk_M} {b0 : Nat} {post : Int32 → Prop} {x0 : Int32} {P : zk_H} (hh : wp_J19_stringSize post x0) : Met l yJ19_stringSize (ws_ yJ19_stringSize cJ19_stringSize 4 (some Jvm.ClassFile.FieldType.int)) ({ frames := 0, cells := 0, slots := 0, locals := 0 } : Room) (va_Pc [.int (x0)] (zk_pre D g b0 P)) (va_Qi (fun r u => post r ∧ u = P) (zk_B D b0) (zk_A b0)) 0 0 (zk_A b0) := by
  refine zk_enter "java/lang/Integer" "stringSize" rfl rfl (plainFor_of_name (by decide)) [.int (x0)] (Nat.le_of_ble_eq_true rfl) ?_
  intro p e s m args below meth c X
  refine zk_at0 (L' := [(0, .int (x0))]) (rfl) ?_
  have h := hh
  unfold wp_J19_stringSize at h
  refine zv_iconst X (v := 1) dJ19_stringSize_0 rfl ?_
  refine zv_istore_n X (i := 1) (L' := [(1, .int (1)), (0, .int (x0))]) dJ19_stringSize_1 rfl (by decide) rfl ?_
  refine zv_iload_n X 1 dJ19_stringSize_2 rfl ?_
  refine zv_if_lt X (tgt := 11) dJ19_stringSize_3 (by decide) h (fun h => ?_) (fun h => ?_)
  · refine zv_sub (L' := [(0, .int (x0)), (1, .int (1))]) [1, 0] rfl ?_
    exact kj_J19_stringSize_11 X  h
  · refine zv_iconst X (v := 0) dJ19_stringSize_6 rfl ?_
    refine zv_istore_n X (i := 1) (L' := [(1, .int (0)), (0, .int (x0))]) dJ19_stringSize_7 rfl (by decide) rfl ?_
    refine zv_iload_n X 1 dJ19_stringSize_8 rfl ?_
    refine zv_ineg X dJ19_stringSize_9 ?_
    refine zv_top_i h (fun v10 h => ?_)
    refine zv_istore_n X (i := 0) (L' := [(0, .int (v10)), (1, .int (0))]) dJ19_stringSize_10 rfl (by decide) rfl ?_
    exact kj_J19_stringSize_11 X  h
theorem kj_J19_getChars_118 {p : Program} {l : Launch} {e : Env} {s : State} {m : MethodId} {args : Array Value} {below : List Frame} {meth : Method} {c : Code} {D : zk_G} {g : zk_M} {b0 : Nat} (X : zk_X p s m args meth c D g b0 cJ19_getChars 7 "java/lang/Integer" "getChars" (some Jvm.ClassFile.FieldType.int)) {post : Int32 → zk_H → Prop}  {a5 : Int32} {P : zk_H}    (hh : wj_J19_getChars_118 g post a5 P) : zV p l e ({ frames := 0, cells := 0, slots := 0, locals := 0 } : Room) s m args below meth c D b0 7 (0) (0) (MQ below (va_Qi post (zk_B D b0) (zk_A b0)) args s 0 0 (zk_A b0)) P 118 [(5, .int (a5))] [] := by
  have h := hh
  unfold wj_J19_getChars_118 at h
  refine zv_iload X 0 dJ19_getChars_118 rfl ?_
  exact zv_iret X rfl (by first | exact Nat.le_of_ble_eq_true rfl | omega | (dsimp only; omega)) (by first | exact Nat.le_of_ble_eq_true rfl | omega | (dsimp only; omega)) dJ19_getChars_120 h
theorem kj_J19_getChars_104 {p : Program} {l : Launch} {e : Env} {s : State} {m : MethodId} {args : Array Value} {below : List Frame} {meth : Method} {c : Code} {D : zk_G} {g : zk_M} {b0 : Nat} (X : zk_X p s m args meth c D g b0 cJ19_getChars 7 "java/lang/Integer" "getChars" (some Jvm.ClassFile.FieldType.int)) {post : Int32 → zk_H → Prop}  {a2 : Option Nat} {a5 : Int32} {a6 : Int32} {P : zk_H}    (hh : wj_J19_getChars_104 g post a2 a5 a6 P) : zV p l e ({ frames := 0, cells := 0, slots := 0, locals := 0 } : Room) s m args below meth c D b0 7 (0) (0) (MQ below (va_Qi post (zk_B D b0) (zk_A b0)) args s 0 0 (zk_A b0)) P 104 [(2, va_rf (a2)), (5, .int (a5)), (6, .int (a6))] [] := by
  have h := hh
  unfold wj_J19_getChars_104 at h
  refine zv_iload X 2 dJ19_getChars_104 rfl ?_
  refine zv_if_eq X (tgt := 118) dJ19_getChars_106 (by decide) h (fun h => ?_) (fun h => ?_)
  · refine zv_sub (L' := [(5, .int (a5))]) [1] rfl ?_
    exact kj_J19_getChars_118 X  h
  · refine zv_aload_n X 0 dJ19_getChars_109 rfl ?_
    obtain ⟨v110, e110, h⟩ := zt_e h
    refine zv_iinc X (v := v110) (L' := [(5, .int (v110)), (2, va_rf (a2)), (6, .int (a6))]) 1 dJ19_getChars_110 rfl e110 (by decide) rfl ?_
    refine zv_iload X 0 dJ19_getChars_113 rfl ?_
    refine zv_bipush X (v := 45) dJ19_getChars_115 rfl ?_
    refine zv_bast X dJ19_getChars_117 h (fun P117 h => ?_)
    refine zv_sub (L' := [(5, .int (v110))]) [0] rfl ?_
    exact kj_J19_getChars_118 X  h
theorem kb_J19_getChars_22 {p : Program} {l : Launch} {e : Env} {s : State} {m : MethodId} {args : Array Value} {below : List Frame} {meth : Method} {c : Code} {D : zk_G} {g : zk_M} {b0 : Nat} (X : zk_X p s m args meth c D g b0 cJ19_getChars 7 "java/lang/Integer" "getChars" (some Jvm.ClassFile.FieldType.int)) {post : Int32 → zk_H → Prop}  {K22 : Int32 → Int32 → zk_H → Prop} {a0 : Int32} {a2 : Option Nat} {a5 : Int32} {a6 : Int32} {P : zk_H}   (hK22 : ∀ (u0 : Int32) (u5 : Int32) (U : zk_H), K22 u0 u5 U → zV p l e ({ frames := 0, cells := 0, slots := 0, locals := 0 } : Room) s m args below meth c D b0 7 (0) (0) (MQ below (va_Qi post (zk_B D b0) (zk_A b0)) args s 0 0 (zk_A b0)) U 22 [(0, .int (u0)), (2, va_rf (a2)), (5, .int (u5)), (6, .int (a6))] [])  (hh : wb_J19_getChars_22 g post a2 a6 K22 a0 a5 P) : zV p l e ({ frames := 0, cells := 0, slots := 0, locals := 0 } : Room) s m args below meth c D b0 7 (0) (0) (MQ below (va_Qi post (zk_B D b0) (zk_A b0)) args s 0 0 (zk_A b0)) P 22 [(0, .int (a0)), (2, va_rf (a2)), (5, .int (a5)), (6, .int (a6))] [] := by
  have h := hh
  unfold wb_J19_getChars_22 at h
  refine zv_iload_n X 0 dJ19_getChars_22 rfl ?_
  refine zv_bipush X (v := -100) dJ19_getChars_23 rfl ?_
  refine zv_icmp_gt X (tgt := 72) dJ19_getChars_25 (by decide) h (fun h => ?_) (fun h => ?_)
  · refine zv_aload_n X 1 dJ19_getChars_72 rfl ?_
    obtain ⟨v73, e73, h⟩ := zt_e h
    refine zv_iinc X (v := v73) (L' := [(5, .int (v73)), (0, .int (a0)), (2, va_rf (a2)), (6, .int (a6))]) 2 dJ19_getChars_73 rfl e73 (by decide) rfl ?_
    refine zv_iload X 0 dJ19_getChars_76 rfl ?_
    refine zv_gets X (i := 4) rfl q1972 rfl dJ19_getChars_78 ?_
    refine zv_iload_n X 1 dJ19_getChars_81 rfl ?_
    refine zv_ineg X dJ19_getChars_82 ?_
    refine zv_bald X dJ19_getChars_83 h (fun v83 h => ?_)
    refine zv_bast X dJ19_getChars_84 h (fun P84 h => ?_)
    refine zv_iload_n X 1 dJ19_getChars_85 rfl ?_
    refine zv_bipush X (v := -9) dJ19_getChars_86 rfl ?_
    refine zv_icmp_ge X (tgt := 104) dJ19_getChars_88 (by decide) h (fun h => ?_) (fun h => ?_)
    · refine zv_sub (L' := [(2, va_rf (a2)), (5, .int (v73)), (6, .int (a6))]) [2, 0, 3] rfl ?_
      exact kj_J19_getChars_104 X  h
    · refine zv_aload_n X 2 dJ19_getChars_91 rfl ?_
      obtain ⟨v92, e92, h⟩ := zt_e h
      refine zv_iinc X (v := v92) (L' := [(5, .int (v92)), (0, .int (a0)), (2, va_rf (a2)), (6, .int (a6))]) 0 dJ19_getChars_92 rfl e92 (by decide) rfl ?_
      refine zv_iload X 0 dJ19_getChars_95 rfl ?_
      refine zv_gets X (i := 3) rfl q1974 rfl dJ19_getChars_97 ?_
      refine zv_iload_n X 1 dJ19_getChars_100 rfl ?_
      refine zv_ineg X dJ19_getChars_101 ?_
      refine zv_bald X dJ19_getChars_102 h (fun v102 h => ?_)
      refine zv_bast X dJ19_getChars_103 h (fun P103 h => ?_)
      refine zv_sub (L' := [(2, va_rf (a2)), (5, .int (v92)), (6, .int (a6))]) [2, 0, 3] rfl ?_
      exact kj_J19_getChars_104 X  h
  · refine zv_iload_n X 0 dJ19_getChars_28 rfl ?_
    refine zv_bipush X (v := 100) dJ19_getChars_29 rfl ?_
    refine zv_idiv X dJ19_getChars_31 (by decide) ?_
    refine zv_top_i h (fun v32 h => ?_)
    refine zv_istore_n X (i := 3) (L' := [(3, .int (v32)), (0, .int (a0)), (2, va_rf (a2)), (5, .int (a5)), (6, .int (a6))]) dJ19_getChars_32 rfl (by decide) (by simp [zk_s1, zk_s2, zk_rc, zk_ic, zk_jc]) ?_
    refine zv_iload_n X 0 dJ19_getChars_33 rfl ?_
    refine zv_bipush X (v := 100) dJ19_getChars_34 rfl ?_
    refine zv_imul X dJ19_getChars_36 ?_
    refine zv_iload_n X 1 dJ19_getChars_37 rfl ?_
    refine zv_isub X dJ19_getChars_38 ?_
    refine zv_top_i h (fun v39 h => ?_)
    refine zv_istore X (L' := [(4, .int (v39)), (3, .int (v32)), (0, .int (a0)), (2, va_rf (a2)), (5, .int (a5)), (6, .int (a6))]) dJ19_getChars_39 (by decide) rfl ?_
    refine zv_iload_n X 1 dJ19_getChars_41 rfl ?_
    refine zv_istore_n X (i := 0) (L' := [(0, .int (v32)), (4, .int (v39)), (3, .int (v32)), (2, va_rf (a2)), (5, .int (a5)), (6, .int (a6))]) dJ19_getChars_42 rfl (by decide) rfl ?_
    refine zv_aload_n X 3 dJ19_getChars_43 rfl ?_
    obtain ⟨v44, e44, h⟩ := zt_e h
    refine zv_iinc X (v := v44) (L' := [(5, .int (v44)), (0, .int (v32)), (4, .int (v39)), (3, .int (v32)), (2, va_rf (a2)), (6, .int (a6))]) 4 dJ19_getChars_44 rfl e44 (by decide) rfl ?_
    refine zv_iload X 0 dJ19_getChars_47 rfl ?_
    refine zv_gets X (i := 4) rfl q1972 rfl dJ19_getChars_49 ?_
    refine zv_iload X 2 dJ19_getChars_52 rfl ?_
    refine zv_bald X dJ19_getChars_54 h (fun v54 h => ?_)
    refine zv_bast X dJ19_getChars_55 h (fun P55 h => ?_)
    refine zv_aload_n X 4 dJ19_getChars_56 rfl ?_
    obtain ⟨v57, e57, h⟩ := zt_e h
    refine zv_iinc X (v := v57) (L' := [(5, .int (v57)), (0, .int (v32)), (4, .int (v39)), (3, .int (v32)), (2, va_rf (a2)), (6, .int (a6))]) 0 dJ19_getChars_57 rfl e57 (by decide) rfl ?_
    refine zv_iload X 0 dJ19_getChars_60 rfl ?_
    refine zv_gets X (i := 3) rfl q1974 rfl dJ19_getChars_62 ?_
    refine zv_iload X 2 dJ19_getChars_65 rfl ?_
    refine zv_bald X dJ19_getChars_67 h (fun v67 h => ?_)
    refine zv_bast X dJ19_getChars_68 h (fun P68 h => ?_)
    refine zv_goto X (tgt := 22) dJ19_getChars_69 (by decide) ?_
    refine zv_sub (L' := [(0, .int (v32)), (2, va_rf (a2)), (5, .int (v57)), (6, .int (a6))]) [1, 4, 0, 5] rfl ?_
    exact hK22 _ _ _ h
theorem kl_J19_getChars_22 {p : Program} {l : Launch} {e : Env} {s : State} {m : MethodId} {args : Array Value} {below : List Frame} {meth : Method} {c : Code} {D : zk_G} {g : zk_M} {b0 : Nat} (X : zk_X p s m args meth c D g b0 cJ19_getChars 7 "java/lang/Integer" "getChars" (some Jvm.ClassFile.FieldType.int)) {post : Int32 → zk_H → Prop}  {a2 : Option Nat} {a6 : Int32}   : ∀ (n : Nat) (a0 : Int32) (a5 : Int32) (P : zk_H), wl_J19_getChars_22 g post a2 a6 n a0 a5 P → zV p l e ({ frames := 0, cells := 0, slots := 0, locals := 0 } : Room) s m args below meth c D b0 7 (0) (0) (MQ below (va_Qi post (zk_B D b0) (zk_A b0)) args s 0 0 (zk_A b0)) P 22 [(0, .int (a0)), (2, va_rf (a2)), (5, .int (a5)), (6, .int (a6))] [] := by
  intro n
  induction n with
  | zero => intro _ _ _ h; exact h.elim
  | succ n ih =>
    intro a0 a5 P h
    exact kb_J19_getChars_22 X  (fun u0 u1 u2 h => ih _ _ _ h)  h
theorem kj_J19_getChars_12 {p : Program} {l : Launch} {e : Env} {s : State} {m : MethodId} {args : Array Value} {below : List Frame} {meth : Method} {c : Code} {D : zk_G} {g : zk_M} {b0 : Nat} (X : zk_X p s m args meth c D g b0 cJ19_getChars 7 "java/lang/Integer" "getChars" (some Jvm.ClassFile.FieldType.int)) {post : Int32 → zk_H → Prop}  {a0 : Int32} {a2 : Option Nat} {a5 : Int32} {s0 : Int32} {P : zk_H}    (hh : wj_J19_getChars_12 g post a0 a2 a5 s0 P) : zV p l e ({ frames := 0, cells := 0, slots := 0, locals := 0 } : Room) s m args below meth c D b0 7 (0) (0) (MQ below (va_Qi post (zk_B D b0) (zk_A b0)) args s 0 0 (zk_A b0)) P 12 [(0, .int (a0)), (2, va_rf (a2)), (5, .int (a5))] [.int (s0)] := by
  have h := hh
  unfold wj_J19_getChars_12 at h
  refine zv_istore X (L' := [(6, .int (s0)), (0, .int (a0)), (2, va_rf (a2)), (5, .int (a5))]) dJ19_getChars_12 (by decide) rfl ?_
  refine zv_iload X 0 dJ19_getChars_14 rfl ?_
  refine zv_if_ne X (tgt := 22) dJ19_getChars_16 (by decide) h (fun h => ?_) (fun h => ?_)
  · refine zv_sub (L' := [(0, .int (a0)), (2, va_rf (a2)), (5, .int (a5)), (6, .int (s0))]) [1, 2, 3, 0] rfl ?_
    obtain ⟨n16, h⟩ := h
    exact kl_J19_getChars_22 X  n16 _ _ _ h
  · refine zv_iload_n X 1 dJ19_getChars_19 rfl ?_
    refine zv_ineg X dJ19_getChars_20 ?_
    refine zv_top_i h (fun v21 h => ?_)
    refine zv_istore_n X (i := 0) (L' := [(0, .int (v21)), (6, .int (s0)), (2, va_rf (a2)), (5, .int (a5))]) dJ19_getChars_21 rfl (by decide) rfl ?_
    refine zv_sub (L' := [(0, .int (v21)), (2, va_rf (a2)), (5, .int (a5)), (6, .int (s0))]) [0, 2, 3, 1] rfl ?_
    obtain ⟨n21, h⟩ := h
    exact kl_J19_getChars_22 X  n21 _ _ _ h
theorem md_J19_getChars : yJ19_getChars.cls ≠ "java/lang/invoke/MethodHandle" ∧ yJ19_getChars.cls ≠ "java/lang/invoke/VarHandle" ∧ (parseMethodDescriptor yJ19_getChars.desc).map (fun d => d.parameters.length) = some 3 := by decide +kernel
theorem wk_J19_getChars (l : Launch) {D : zk_G} {g : zk_M} {b0 : Nat} {post : Int32 → zk_H → Prop} {x0 : Int32} {x1 : Int32} {x2 : Option Nat} {P : zk_H} (hh : wp_J19_getChars g post x0 x1 x2 P) : Met l yJ19_getChars (ws_ yJ19_getChars cJ19_getChars 7 (some Jvm.ClassFile.FieldType.int)) ({ frames := 0, cells := 0, slots := 0, locals := 0 } : Room) (va_Pc [.int (x0), .int (x1), va_rf (x2)] (zk_pre D g b0 P)) (va_Qi post (zk_B D b0) (zk_A b0)) 0 0 (zk_A b0) := by
  refine zk_enter "java/lang/Integer" "getChars" rfl rfl (plainFor_of_name (by decide)) [.int (x0), .int (x1), va_rf (x2)] (by cases x2 <;> exact Nat.le_of_ble_eq_true rfl) ?_
  intro p e s m args below meth c X
  refine zk_at0 (L' := [(0, .int (x0)), (1, .int (x1)), (2, va_rf (x2))]) (by cases x2 <;> rfl) ?_
  have h := hh
  unfold wp_J19_getChars at h
  refine zv_iload_n X 1 dJ19_getChars_0 rfl ?_
  refine zv_istore X (L' := [(5, .int (x1)), (0, .int (x0)), (1, .int (x1)), (2, va_rf (x2))]) dJ19_getChars_1 (by decide) rfl ?_
  refine zv_iload_n X 1 dJ19_getChars_3 rfl ?_
  refine zv_if_ge X (tgt := 11) dJ19_getChars_4 (by decide) h (fun h => ?_) (fun h => ?_)
  · refine zv_iconst X (v := 0) dJ19_getChars_11 rfl ?_
    refine zv_sub (L' := [(0, .int (x0)), (2, va_rf (x2)), (5, .int (x1))]) [1, 3, 0] rfl ?_
    exact kj_J19_getChars_12 X  h
  · refine zv_iconst X (v := 1) dJ19_getChars_7 rfl ?_
    refine zv_goto X (tgt := 12) dJ19_getChars_8 (by decide) ?_
    refine zv_sub (L' := [(0, .int (x0)), (2, va_rf (x2)), (5, .int (x1))]) [1, 3, 0] rfl ?_
    exact kj_J19_getChars_12 X  h
theorem md_J7_append_3 : yJ7_append_3.cls ≠ "java/lang/invoke/MethodHandle" ∧ yJ7_append_3.cls ≠ "java/lang/invoke/VarHandle" ∧ (parseMethodDescriptor yJ7_append_3.desc).map (fun d => d.parameters.length) = some 1 := by decide +kernel
theorem wk_J7_append_3 (l : Launch) {D : zk_G} {g : zk_M} {b0 : Nat} {post : Option Nat → zk_H → Prop} {this : Nat} {x1 : Int32} {P : zk_H} {k0 n0 : Nat} (hh : wp_J7_append_3 g post this x1 P k0 n0) : Met l yJ7_append_3 (ws_ yJ7_append_3 cJ7_append_3 4 (some (Jvm.ClassFile.FieldType.object "java/lang/AbstractStringBuilder"))) ({ frames := 4, cells := k0, slots := n0, locals := 91 } : Room) (va_Pc [.ref this, .int (x1)] (zk_pre D g b0 P)) (va_Qq post (zk_B D b0) (zk_A b0)) k0 n0 (zk_A b0) := by
  refine zk_enter "java/lang/AbstractStringBuilder" "append" rfl rfl (plainFor_of_name (by decide)) [.ref this, .int (x1)] (Nat.le_of_ble_eq_true rfl) ?_
  intro p e s m args below meth c X
  refine zk_at0 (L' := [(0, va_rf (some this)), (1, .int (x1))]) (rfl) ?_
  have h := hh
  unfold wp_J7_append_3 at h
  refine zv_aload_n X 0 dJ7_append_3_0 rfl ?_
  refine zv_getf_i X fo_q771 dJ7_append_3_1 h (fun v1 h => ?_)
  refine zv_istore_n X (i := 2) (L' := [(2, .int (v1)), (0, va_rf (some this)), (1, .int (x1))]) dJ7_append_3_4 rfl (by decide) rfl ?_
  refine zv_iload_n X 0 dJ7_append_3_5 rfl ?_
  refine zv_iload_n X 2 dJ7_append_3_6 rfl ?_
  refine zv_ciR ((zr_S X (As := [.int (x1)]) (rest := [.int (v1)]) (wk_J19_stringSize l h) (va_cwS 1 X.hts (lw_S q1966 q1967 q135 q1968) rfl rfl rfl md_J19_stringSize ⟨Nat.le_of_ble_eq_true rfl, Nat.le_of_ble_eq_true rfl⟩) rfl rfl (zk_rs (Nat.le_of_ble_eq_true rfl)) dJ7_append_3_7 ⟨by dsimp only; omega, by dsimp only; omega⟩)) (fun v7 h => ?_)
  refine zv_iadd X dJ7_append_3_10 ?_
  refine zv_top_i h (fun v11 h => ?_)
  refine zv_istore_n X (i := 3) (L' := [(3, .int (v11)), (2, .int (v1)), (0, va_rf (some this)), (1, .int (x1))]) dJ7_append_3_11 rfl (by decide) rfl ?_
  refine zv_aload_n X 2 dJ7_append_3_12 rfl ?_
  refine zv_iload_n X 0 dJ7_append_3_13 rfl ?_
  obtain ⟨k14, n14, f141, f142, h⟩ := h
  refine zv_cv ((zr_Ul X (As := [.int (v11)]) (rest := []) h (fun a h => wk_J7_ensureCapacityInternal l h) (zk_l1 ⟨_, rfl, _, zk_cwUP X 1 q795 q2595 (X.sx (i := 0) rfl) q797 q116 q798 md_J7_ensureCapacityInternal ⟨Nat.le_of_ble_eq_true rfl, Nat.le_of_ble_eq_true rfl⟩⟩) rfl rfl (zk_rs (Nat.le_of_ble_eq_true rfl)) dJ7_append_3_14 ⟨by dsimp only; omega, by dsimp only; omega⟩)) (fun P14 h => ?_)
  refine zv_aload_n X 2 dJ7_append_3_17 rfl ?_
  refine zv_ciR ((zr_Ul X (As := []) (rest := []) h (fun a h => wk_J7_isLatin1 l h) (zk_l1 ⟨_, rfl, _, va_cwU 0 X.hts (zk_wsU q813 q815 q816 q814 q116 q817) rfl rfl rfl rfl md_J7_isLatin1 ⟨Nat.le_of_ble_eq_true rfl, Nat.le_of_ble_eq_true rfl⟩⟩) rfl rfl (zk_rs (Nat.le_of_ble_eq_true rfl)) dJ7_append_3_18 ⟨by dsimp only; omega, by dsimp only; omega⟩)) (fun v18 h => ?_)
  refine zv_if_eq X (tgt := 37) dJ7_append_3_21 (by decide) h (fun h => ?_) (fun h => ?_)
  · refine zv_iload_n X 3 dJ7_append_3_37 rfl ?_
    refine zv_iload_n X 1 dJ7_append_3_38 rfl ?_
    refine zv_iload_n X 0 dJ7_append_3_39 rfl ?_
    refine zv_aload_n X 2 dJ7_append_3_40 rfl ?_
    refine zv_getf_r X fo_q768 dJ7_append_3_41 h (fun v41 h => ?_)
    exact h.elim
  · refine zv_iload_n X 3 dJ7_append_3_24 rfl ?_
    refine zv_iload_n X 0 dJ7_append_3_25 rfl ?_
    refine zv_aload_n X 2 dJ7_append_3_26 rfl ?_
    refine zv_getf_r X fo_q768 dJ7_append_3_27 h (fun v27 h => ?_)
    refine zv_ci ((zr_S X (As := [.int (x1), .int (v11), va_rf (v27)]) (rest := []) (wk_J19_getChars l h) (va_cwS 3 X.hts (lw_S q1969 q1970 q135 q1971) rfl rfl rfl md_J19_getChars ⟨Nat.le_of_ble_eq_true rfl, Nat.le_of_ble_eq_true rfl⟩) rfl rfl (zk_rs (Nat.le_of_ble_eq_true rfl)) dJ7_append_3_30 ⟨by dsimp only; omega, by dsimp only; omega⟩)) (fun v30 P30 h => ?_)
    refine zv_pop X dJ7_append_3_33 rfl ?_
    refine zv_goto X (tgt := 48) dJ7_append_3_34 (by decide) ?_
    refine zv_aload_n X 2 dJ7_append_3_48 rfl ?_
    refine zv_iload_n X 0 dJ7_append_3_49 rfl ?_
    refine zv_put_i X fp_q771 (fun z => by cases z) dJ7_append_3_50 h (fun P50 h => ?_)
    refine zv_aload_n X 2 dJ7_append_3_53 rfl ?_
    exact zv_aret X rfl (Or.inl ⟨_, rfl⟩) (by omega) (by omega) dJ7_append_3_54 h
theorem md_J8_append_3 : yJ8_append_3.cls ≠ "java/lang/invoke/MethodHandle" ∧ yJ8_append_3.cls ≠ "java/lang/invoke/VarHandle" ∧ (parseMethodDescriptor yJ8_append_3.desc).map (fun d => d.parameters.length) = some 1 := by decide +kernel
theorem wk_J8_append_3 (l : Launch) {D : zk_G} {g : zk_M} {b0 : Nat} {post : Option Nat → zk_H → Prop} {this : Nat} {x1 : Int32} {P : zk_H} {k0 n0 : Nat} (hh : wp_J8_append_3 g post this x1 P k0 n0) : Met l yJ8_append_3 (ws_ yJ8_append_3 cJ8_append_3 2 (some (Jvm.ClassFile.FieldType.object "java/lang/StringBuilder"))) ({ frames := 5, cells := k0, slots := n0, locals := 114 } : Room) (va_Pc [.ref this, .int (x1)] (zk_pre D g b0 P)) (va_Qq post (zk_B D b0) (zk_A b0)) k0 n0 (zk_A b0) := by
  refine zk_enter "java/lang/StringBuilder" "append" rfl rfl (plainFor_of_name (by decide)) [.ref this, .int (x1)] (Nat.le_of_ble_eq_true rfl) ?_
  intro p e s m args below meth c X
  refine zk_at0 (L' := [(0, va_rf (some this)), (1, .int (x1))]) (rfl) ?_
  have h := hh
  unfold wp_J8_append_3 at h
  refine zv_aload_n X 0 dJ8_append_3_0 rfl ?_
  refine zv_iload_n X 1 dJ8_append_3_1 rfl ?_
  obtain ⟨k2, n2, f21, f22, h⟩ := h
  refine zv_cq ((zr_P X (As := [.int (x1)]) (rest := []) h (fun a h => wk_J7_append_3 l h) (va_cwSU 1 X.hts (zk_wsSU q1963 q2614 q780 q1964 q116 q1965) rfl rfl rfl ⟨by decide, md_J7_append_3.2.2⟩ ⟨Nat.le_of_ble_eq_true rfl, Nat.le_of_ble_eq_true rfl⟩) rfl rfl (zk_rs (Nat.le_of_ble_eq_true rfl)) dJ8_append_3_2 ⟨by dsimp only; omega, by dsimp only; omega⟩)) (fun v2 P2 h => ?_)
  refine zv_pop X dJ8_append_3_5 (zk_rc _) ?_
  refine zv_aload_n X 0 dJ8_append_3_6 rfl ?_
  exact zv_aret X rfl (Or.inl ⟨_, rfl⟩) (by omega) (by omega) dJ8_append_3_7 h
theorem md_J7_inflateIfNeededFor : yJ7_inflateIfNeededFor.cls ≠ "java/lang/invoke/MethodHandle" ∧ yJ7_inflateIfNeededFor.cls ≠ "java/lang/invoke/VarHandle" ∧ (parseMethodDescriptor yJ7_inflateIfNeededFor.desc).map (fun d => d.parameters.length) = some 1 := by decide +kernel
theorem wk_J7_inflateIfNeededFor (l : Launch) {D : zk_G} {g : zk_M} {b0 : Nat} {post : Prop} {this : Nat} {x1 : Option Nat} {P : zk_H} (hh : wp_J7_inflateIfNeededFor post this x1 P) : Met l yJ7_inflateIfNeededFor (ws_ yJ7_inflateIfNeededFor cJ7_inflateIfNeededFor 2 none) ({ frames := 1, cells := 0, slots := 0, locals := 20 } : Room) (va_Pc [.ref this, va_rf (x1)] (zk_pre D g b0 P)) (va_Qv (fun u => post ∧ u = P) (zk_B D b0) (zk_A b0)) 0 0 (zk_A b0) := by
  refine zk_enter "java/lang/AbstractStringBuilder" "inflateIfNeededFor" rfl rfl (plainFor_of_name (by decide)) [.ref this, va_rf (x1)] (by cases x1 <;> exact Nat.le_of_ble_eq_true rfl) ?_
  intro p e s m args below meth c X
  refine zk_at0 (L' := [(0, va_rf (some this)), (1, va_rf (x1))]) (by cases x1 <;> rfl) ?_
  have h := hh
  unfold wp_J7_inflateIfNeededFor at h
  refine zv_gets X (i := 1) rfl q759 rfl dJ7_inflateIfNeededFor_0 ?_
  refine zv_if_eq X (tgt := 21) dJ7_inflateIfNeededFor_3 (by decide) h (fun h => ?_) (fun h => ?_)
  · exact zv_vret X rfl (by first | exact Nat.le_of_ble_eq_true rfl | omega | (dsimp only; omega)) (by first | exact Nat.le_of_ble_eq_true rfl | omega | (dsimp only; omega)) dJ7_inflateIfNeededFor_21 ⟨h, rfl⟩
  · refine zv_aload_n X 0 dJ7_inflateIfNeededFor_6 rfl ?_
    refine zv_getf_i X fo_q769 dJ7_inflateIfNeededFor_7 h (fun v7 h => ?_)
    refine zv_aload_n X 1 dJ7_inflateIfNeededFor_10 rfl ?_
    refine zv_ciR ((zr_Vl X (As := []) (rest := [.int (v7)]) h (fun a h => wk_J9_coder l h) (zk_l1 ⟨_, rfl, cwV 0 X.hts (lw_V q1952 q998 q999 q118 q1000) rfl rfl rfl ⟨rfl, md_J9_coder⟩ ⟨Nat.le_of_ble_eq_true rfl, Nat.le_of_ble_eq_true rfl⟩⟩) rfl rfl (zk_rs (Nat.le_of_ble_eq_true rfl)) dJ7_inflateIfNeededFor_11 ⟨by first | exact Nat.le_of_ble_eq_true rfl | omega | (dsimp only; omega), by first | exact Nat.le_of_ble_eq_true rfl | omega | (dsimp only; omega)⟩)) (fun v11 h => ?_)
    refine zv_icmp_eq X (tgt := 21) dJ7_inflateIfNeededFor_14 (by decide) h (fun h => ?_) (fun h => ?_)
    · exact zv_vret X rfl (by first | exact Nat.le_of_ble_eq_true rfl | omega | (dsimp only; omega)) (by first | exact Nat.le_of_ble_eq_true rfl | omega | (dsimp only; omega)) dJ7_inflateIfNeededFor_21 ⟨h, rfl⟩
    · refine zv_aload_n X 0 dJ7_inflateIfNeededFor_17 rfl ?_
      exact h.elim
theorem md_J11_inflate : yJ11_inflate.cls ≠ "java/lang/invoke/MethodHandle" ∧ yJ11_inflate.cls ≠ "java/lang/invoke/VarHandle" ∧ (parseMethodDescriptor yJ11_inflate.desc).map (fun d => d.parameters.length) = some 5 := by decide +kernel
theorem wk_J11_inflate (l : Launch) {D : zk_G} {g : zk_M} {b0 : Nat} {post : Prop} {x0 : Option Nat} {x1 : Int32} {x2 : Option Nat} {x3 : Int32} {x4 : Int32} {P : zk_H} (hh : wp_J11_inflate post x0 x1 x2 x3 x4) : Met l yJ11_inflate (ws_ yJ11_inflate cJ11_inflate 5 none) ({ frames := 0, cells := 0, slots := 0, locals := 0 } : Room) (va_Pc [va_rf (x0), .int (x1), va_rf (x2), .int (x3), .int (x4)] (zk_pre D g b0 P)) (va_Qv (fun u => post ∧ u = P) (zk_B D b0) (zk_A b0)) 0 0 (zk_A b0) := by
  refine zk_enter "java/lang/StringLatin1" "inflate" rfl rfl (plainFor_of_name (by decide)) [va_rf (x0), .int (x1), va_rf (x2), .int (x3), .int (x4)] (by cases x0 <;> cases x2 <;> exact Nat.le_of_ble_eq_true rfl) ?_
  intro p e s m args below meth c X
  refine zk_at0 (L' := [(0, va_rf (x0)), (1, .int (x1)), (2, va_rf (x2)), (3, .int (x3)), (4, .int (x4))]) (by cases x0 <;> cases x2 <;> rfl) ?_
  have h := hh
  unfold wp_J11_inflate at h
  refine zv_aload_n X 0 dJ11_inflate_0 rfl ?_
  refine zv_iload_n X 1 dJ11_inflate_1 rfl ?_
  refine zv_aload_n X 2 dJ11_inflate_2 rfl ?_
  refine zv_iload_n X 3 dJ11_inflate_3 rfl ?_
  refine zv_iload X 4 dJ11_inflate_4 rfl ?_
  exact h.elim
theorem md_J9_getBytes : yJ9_getBytes.cls ≠ "java/lang/invoke/MethodHandle" ∧ yJ9_getBytes.cls ≠ "java/lang/invoke/VarHandle" ∧ (parseMethodDescriptor yJ9_getBytes.desc).map (fun d => d.parameters.length) = some 3 := by decide +kernel
theorem wk_J9_getBytes (l : Launch) {D : zk_G} {g : zk_M} {b0 : Nat} {post : zk_H → Prop} {this : Nat} {x1 : Option Nat} {x2 : Int32} {x3 : Int32} {P : zk_H} (hh : wp_J9_getBytes post this x1 x2 x3 P) : Met l yJ9_getBytes (ws_ yJ9_getBytes cJ9_getBytes 4 none) ({ frames := 1, cells := 0, slots := 0, locals := 40 } : Room) (va_Pc [.ref this, va_rf (x1), .int (x2), .int (x3)] (zk_pre D g b0 P)) (va_Qv post (zk_B D b0) (zk_A b0)) 0 0 (zk_A b0) := by
  refine zk_enter "java/lang/String" "getBytes" rfl rfl (plainFor_of_name (by decide)) [.ref this, va_rf (x1), .int (x2), .int (x3)] (by cases x1 <;> exact Nat.le_of_ble_eq_true rfl) ?_
  intro p e s m args below meth c X
  refine zk_at0 (L' := [(0, va_rf (some this)), (1, va_rf (x1)), (2, .int (x2)), (3, .int (x3))]) (by cases x1 <;> rfl) ?_
  have h := hh
  unfold wp_J9_getBytes at h
  refine zv_aload_n X 0 dJ9_getBytes_0 rfl ?_
  refine zv_ciR ((zr_Vl X (As := []) (rest := []) h (fun a h => wk_J9_coder l h) (zk_l1 ⟨_, rfl, cwV 0 X.hts (lw_V q997 q998 q999 q118 q1000) rfl rfl rfl ⟨rfl, md_J9_coder⟩ ⟨Nat.le_of_ble_eq_true rfl, Nat.le_of_ble_eq_true rfl⟩⟩) rfl rfl (zk_rs (Nat.le_of_ble_eq_true rfl)) dJ9_getBytes_1 ⟨by first | exact Nat.le_of_ble_eq_true rfl | omega | (dsimp only; omega), by first | exact Nat.le_of_ble_eq_true rfl | omega | (dsimp only; omega)⟩)) (fun v1 h => ?_)
  refine zv_iload_n X 3 dJ9_getBytes_4 rfl ?_
  refine zv_icmp_ne X (tgt := 28) dJ9_getBytes_5 (by decide) h (fun h => ?_) (fun h => ?_)
  · refine zv_aload_n X 0 dJ9_getBytes_28 rfl ?_
    refine zv_getf_r X fo_q907 dJ9_getBytes_29 h (fun v29 h => ?_)
    refine zv_iconst X (v := 0) dJ9_getBytes_32 rfl ?_
    refine zv_aload_n X 1 dJ9_getBytes_33 rfl ?_
    refine zv_iload_n X 2 dJ9_getBytes_34 rfl ?_
    refine zv_aload_n X 0 dJ9_getBytes_35 rfl ?_
    refine zv_getf_r X fo_q907 dJ9_getBytes_36 h (fun v36 h => ?_)
    refine zv_alen X dJ9_getBytes_39 h (fun v39 h => ?_)
    refine zv_cvR ((zr_S X (As := [va_rf (v29), .int (0), va_rf (x1), .int (x2), .int (v39)]) (rest := []) (wk_J11_inflate l h) (va_cwS 5 X.hts (lw_S q1958 q826 q120 q827) rfl rfl rfl md_J11_inflate ⟨Nat.le_of_ble_eq_true rfl, Nat.le_of_ble_eq_true rfl⟩) rfl rfl (zk_rs (Nat.le_of_ble_eq_true rfl)) dJ9_getBytes_40 ⟨by first | exact Nat.le_of_ble_eq_true rfl | omega | (dsimp only; omega), by first | exact Nat.le_of_ble_eq_true rfl | omega | (dsimp only; omega)⟩)) (fun h => ?_)
    exact zv_vret X rfl (by first | exact Nat.le_of_ble_eq_true rfl | omega | (dsimp only; omega)) (by first | exact Nat.le_of_ble_eq_true rfl | omega | (dsimp only; omega)) dJ9_getBytes_43 h
  · refine zv_aload_n X 0 dJ9_getBytes_8 rfl ?_
    refine zv_getf_r X fo_q907 dJ9_getBytes_9 h (fun v9 h => ?_)
    refine zv_iconst X (v := 0) dJ9_getBytes_12 rfl ?_
    refine zv_aload_n X 1 dJ9_getBytes_13 rfl ?_
    refine zv_iload_n X 2 dJ9_getBytes_14 rfl ?_
    refine zv_iload_n X 3 dJ9_getBytes_15 rfl ?_
    refine zv_ishl X dJ9_getBytes_16 ?_
    refine zv_aload_n X 0 dJ9_getBytes_17 rfl ?_
    refine zv_getf_r X fo_q907 dJ9_getBytes_18 h (fun v18 h => ?_)
    refine zv_alen X dJ9_getBytes_21 h (fun v21 h => ?_)
    refine zv_copyB X q1957 ⟨by first | decide | (dsimp only; decide), by first | decide | (dsimp only; decide)⟩ (zk_rs (Nat.le_of_ble_eq_true rfl)) dJ9_getBytes_22 h (fun P22 h => ?_)
    refine zv_goto X (tgt := 43) dJ9_getBytes_25 (by decide) ?_
    exact zv_vret X rfl (by first | exact Nat.le_of_ble_eq_true rfl | omega | (dsimp only; omega)) (by first | exact Nat.le_of_ble_eq_true rfl | omega | (dsimp only; omega)) dJ9_getBytes_43 h
theorem md_J7_putStringAt : yJ7_putStringAt.cls ≠ "java/lang/invoke/MethodHandle" ∧ yJ7_putStringAt.cls ≠ "java/lang/invoke/VarHandle" ∧ (parseMethodDescriptor yJ7_putStringAt.desc).map (fun d => d.parameters.length) = some 2 := by decide +kernel
theorem wk_J7_putStringAt (l : Launch) {D : zk_G} {g : zk_M} {b0 : Nat} {post : zk_H → Prop} {this : Nat} {x1 : Int32} {x2 : Option Nat} {P : zk_H} (hh : wp_J7_putStringAt post this x1 x2 P) : Met l yJ7_putStringAt (ws_ yJ7_putStringAt cJ7_putStringAt 3 none) ({ frames := 2, cells := 0, slots := 0, locals := 63 } : Room) (va_Pc [.ref this, .int (x1), va_rf (x2)] (zk_pre D g b0 P)) (va_Qv post (zk_B D b0) (zk_A b0)) 0 0 (zk_A b0) := by
  refine zk_enter "java/lang/AbstractStringBuilder" "putStringAt" rfl rfl (plainFor_of_name (by decide)) [.ref this, .int (x1), va_rf (x2)] (by cases x2 <;> exact Nat.le_of_ble_eq_true rfl) ?_
  intro p e s m args below meth c X
  refine zk_at0 (L' := [(0, va_rf (some this)), (1, .int (x1)), (2, va_rf (x2))]) (by cases x2 <;> rfl) ?_
  have h := hh
  unfold wp_J7_putStringAt at h
  refine zv_aload_n X 0 dJ7_putStringAt_0 rfl ?_
  refine zv_aload_n X 2 dJ7_putStringAt_1 rfl ?_
  refine zv_cvR ((zr_Ul X (As := [va_rf (x2)]) (rest := []) h (fun a h => wk_J7_inflateIfNeededFor l h) (zk_l1 ⟨_, rfl, _, zk_cwUP X 1 q1948 q2613 (X.sx (i := 3) rfl) q1950 q116 q1951 md_J7_inflateIfNeededFor ⟨Nat.le_of_ble_eq_true rfl, Nat.le_of_ble_eq_true rfl⟩⟩) rfl rfl (zk_rs (Nat.le_of_ble_eq_true rfl)) dJ7_putStringAt_2 ⟨by first | exact Nat.le_of_ble_eq_true rfl | omega | (dsimp only; omega), by first | exact Nat.le_of_ble_eq_true rfl | omega | (dsimp only; omega)⟩)) (fun h => ?_)
  refine zv_aload_n X 2 dJ7_putStringAt_5 rfl ?_
  refine zv_aload_n X 0 dJ7_putStringAt_6 rfl ?_
  refine zv_getf_r X fo_q768 dJ7_putStringAt_7 h (fun v7 h => ?_)
  refine zv_iload_n X 1 dJ7_putStringAt_10 rfl ?_
  refine zv_aload_n X 0 dJ7_putStringAt_11 rfl ?_
  refine zv_getf_i X fo_q769 dJ7_putStringAt_12 h (fun v12 h => ?_)
  refine zv_cv ((zr_Vl X (As := [va_rf (v7), .int (x1), .int (v12)]) (rest := []) h (fun a h => wk_J9_getBytes l h) (zk_l1 ⟨_, rfl, cwV 3 X.hts (lw_V q1953 q1954 q1955 q118 q1956) rfl rfl rfl ⟨rfl, md_J9_getBytes⟩ ⟨Nat.le_of_ble_eq_true rfl, Nat.le_of_ble_eq_true rfl⟩⟩) rfl rfl (zk_rs (Nat.le_of_ble_eq_true rfl)) dJ7_putStringAt_15 ⟨by first | exact Nat.le_of_ble_eq_true rfl | omega | (dsimp only; omega), by first | exact Nat.le_of_ble_eq_true rfl | omega | (dsimp only; omega)⟩)) (fun P15 h => ?_)
  exact zv_vret X rfl (by first | exact Nat.le_of_ble_eq_true rfl | omega | (dsimp only; omega)) (by first | exact Nat.le_of_ble_eq_true rfl | omega | (dsimp only; omega)) dJ7_putStringAt_18 h
theorem md_J7_append_2 : yJ7_append_2.cls ≠ "java/lang/invoke/MethodHandle" ∧ yJ7_append_2.cls ≠ "java/lang/invoke/VarHandle" ∧ (parseMethodDescriptor yJ7_append_2.desc).map (fun d => d.parameters.length) = some 1 := by decide +kernel
theorem wk_J7_append_2 (l : Launch) {D : zk_G} {g : zk_M} {b0 : Nat} {post : Option Nat → zk_H → Prop} {this : Nat} {x1 : Option Nat} {P : zk_H} {k0 n0 : Nat} (hh : wp_J7_append_2 post this x1 P k0 n0) : Met l yJ7_append_2 (ws_ yJ7_append_2 cJ7_append_2 3 (some (Jvm.ClassFile.FieldType.object "java/lang/AbstractStringBuilder"))) ({ frames := 4, cells := k0, slots := n0, locals := 91 } : Room) (va_Pc [.ref this, va_rf (x1)] (zk_pre D g b0 P)) (va_Qq post (zk_B D b0) (zk_A b0)) k0 n0 (zk_A b0) := by
  refine zk_enter "java/lang/AbstractStringBuilder" "append" rfl rfl (plainFor_of_name (by decide)) [.ref this, va_rf (x1)] (by cases x1 <;> exact Nat.le_of_ble_eq_true rfl) ?_
  intro p e s m args below meth c X
  refine zk_at0 (L' := [(0, va_rf (some this)), (1, va_rf (x1))]) (by cases x1 <;> rfl) ?_
  have h := hh
  unfold wp_J7_append_2 at h
  refine zv_aload_n X 1 dJ7_append_2_0 rfl ?_
  refine zv_ifnonnull X (tgt := 9) dJ7_append_2_1 (by decide) h (fun h => ?_) (fun h => ?_)
  · refine zv_aload_n X 1 dJ7_append_2_9 rfl ?_
    refine zv_ciR ((zr_Vl X (As := []) (rest := []) h (fun a h => wk_J9_length l h) (zk_l1 ⟨_, rfl, cwV 0 X.hts (lw_V q1943 q994 q995 q118 q996) rfl rfl rfl ⟨rfl, md_J9_length⟩ ⟨Nat.le_of_ble_eq_true rfl, Nat.le_of_ble_eq_true rfl⟩⟩) rfl rfl (zk_rs (Nat.le_of_ble_eq_true rfl)) dJ7_append_2_10 ⟨by dsimp only; omega, by dsimp only; omega⟩)) (fun v10 h => ?_)
    refine zv_istore_n X (i := 2) (L' := [(2, .int (v10)), (0, va_rf (some this)), (1, va_rf (x1))]) dJ7_append_2_13 rfl (by decide) (by simp [zk_s1, zk_s2, zk_rc, zk_ic, zk_jc]) ?_
    refine zv_aload_n X 1 dJ7_append_2_14 rfl ?_
    refine zv_aload_n X 1 dJ7_append_2_15 rfl ?_
    refine zv_getf_i X fo_q771 dJ7_append_2_16 h (fun v16 h => ?_)
    refine zv_iload_n X 0 dJ7_append_2_19 rfl ?_
    refine zv_iadd X dJ7_append_2_20 ?_
    obtain ⟨k21, n21, f211, f212, h⟩ := h
    refine zv_cv ((zr_Ul X (As := [.int (v16 + v10)]) (rest := []) h (fun a h => wk_J7_ensureCapacityInternal l h) (zk_l1 ⟨_, rfl, _, zk_cwUP X 1 q795 q2595 (X.sx (i := 0) rfl) q797 q116 q798 md_J7_ensureCapacityInternal ⟨Nat.le_of_ble_eq_true rfl, Nat.le_of_ble_eq_true rfl⟩⟩) rfl rfl (zk_rs (Nat.le_of_ble_eq_true rfl)) dJ7_append_2_21 ⟨by dsimp only; omega, by dsimp only; omega⟩)) (fun P21 h => ?_)
    refine zv_aload_n X 1 dJ7_append_2_24 rfl ?_
    refine zv_aload_n X 1 dJ7_append_2_25 rfl ?_
    refine zv_getf_i X fo_q771 dJ7_append_2_26 h (fun v26 h => ?_)
    refine zv_aload_n X 2 dJ7_append_2_29 rfl ?_
    refine zv_cv ((zr_Ul X (As := [.int (v26), va_rf (x1)]) (rest := []) h (fun a h => wk_J7_putStringAt l h) (zk_l1 ⟨_, rfl, _, zk_cwUP X 2 q1944 q2612 (X.sx (i := 2) rfl) q1946 q116 q1947 md_J7_putStringAt ⟨Nat.le_of_ble_eq_true rfl, Nat.le_of_ble_eq_true rfl⟩⟩) rfl rfl (zk_rs (Nat.le_of_ble_eq_true rfl)) dJ7_append_2_30 ⟨by dsimp only; omega, by dsimp only; omega⟩)) (fun P30 h => ?_)
    refine zv_aload_n X 1 dJ7_append_2_33 rfl ?_
    refine zv_dup X dJ7_append_2_34 (zk_rc _) ?_
    refine zv_getf_i X fo_q771 dJ7_append_2_35 h (fun v35 h => ?_)
    refine zv_iload_n X 0 dJ7_append_2_38 rfl ?_
    refine zv_iadd X dJ7_append_2_39 ?_
    refine zv_put_i X fp_q771 (fun z => by cases z) dJ7_append_2_40 h (fun P40 h => ?_)
    refine zv_aload_n X 1 dJ7_append_2_43 rfl ?_
    exact zv_aret X rfl (Or.inl ⟨_, rfl⟩) (by omega) (by omega) dJ7_append_2_44 h
  · refine zv_aload_n X 0 dJ7_append_2_4 rfl ?_
    exact h.elim
theorem md_J8_append_2 : yJ8_append_2.cls ≠ "java/lang/invoke/MethodHandle" ∧ yJ8_append_2.cls ≠ "java/lang/invoke/VarHandle" ∧ (parseMethodDescriptor yJ8_append_2.desc).map (fun d => d.parameters.length) = some 1 := by decide +kernel
theorem wk_J8_append_2 (l : Launch) {D : zk_G} {g : zk_M} {b0 : Nat} {post : Option Nat → zk_H → Prop} {this : Nat} {x1 : Option Nat} {P : zk_H} {k0 n0 : Nat} (hh : wp_J8_append_2 post this x1 P k0 n0) : Met l yJ8_append_2 (ws_ yJ8_append_2 cJ8_append_2 2 (some (Jvm.ClassFile.FieldType.object "java/lang/StringBuilder"))) ({ frames := 5, cells := k0, slots := n0, locals := 113 } : Room) (va_Pc [.ref this, va_rf (x1)] (zk_pre D g b0 P)) (va_Qq post (zk_B D b0) (zk_A b0)) k0 n0 (zk_A b0) := by
  refine zk_enter "java/lang/StringBuilder" "append" rfl rfl (plainFor_of_name (by decide)) [.ref this, va_rf (x1)] (by cases x1 <;> exact Nat.le_of_ble_eq_true rfl) ?_
  intro p e s m args below meth c X
  refine zk_at0 (L' := [(0, va_rf (some this)), (1, va_rf (x1))]) (by cases x1 <;> rfl) ?_
  have h := hh
  unfold wp_J8_append_2 at h
  refine zv_aload_n X 0 dJ8_append_2_0 rfl ?_
  refine zv_aload_n X 1 dJ8_append_2_1 rfl ?_
  obtain ⟨k2, n2, f21, f22, h⟩ := h
  refine zv_cq ((zr_P X (As := [va_rf (x1)]) (rest := []) h (fun a h => wk_J7_append_2 l h) (va_cwSU 1 X.hts (zk_wsSU q1924 q2610 q780 q1925 q116 q1926) rfl rfl rfl ⟨by decide, md_J7_append_2.2.2⟩ ⟨Nat.le_of_ble_eq_true rfl, Nat.le_of_ble_eq_true rfl⟩) rfl rfl (zk_rs (Nat.le_of_ble_eq_true rfl)) dJ8_append_2_2 ⟨by dsimp only; omega, by dsimp only; omega⟩)) (fun v2 P2 h => ?_)
  refine zv_pop X dJ8_append_2_5 (zk_rc _) ?_
  refine zv_aload_n X 0 dJ8_append_2_6 rfl ?_
  exact zv_aret X rfl (Or.inl ⟨_, rfl⟩) (by omega) (by omega) dJ8_append_2_7 h
theorem md_J13_init_2 : yJ13_init_2.cls ≠ "java/lang/invoke/MethodHandle" ∧ yJ13_init_2.cls ≠ "java/lang/invoke/VarHandle" ∧ (parseMethodDescriptor yJ13_init_2.desc).map (fun d => d.parameters.length) = some 4 := by decide +kernel
theorem wk_J13_init_2 (l : Launch) {D : zk_G} {g : zk_M} {b0 : Nat} {post : zk_H → Prop} {this : Nat} {x1 : Option Nat} {x2 : Option Nat} {x3 : Int32} {x4 : Int32} {P : zk_H} (hh : wp_J13_init_2 g post this x1 x2 x3 x4 P) : Met l yJ13_init_2 (ws_ yJ13_init_2 cJ13_init_2 5 none) ({ frames := 1, cells := 0, slots := 0, locals := 20 } : Room) (va_Pc [.ref this, va_rf (x1), va_rf (x2), .int (x3), .int (x4)] (zk_pre D g b0 P)) (va_Qv post (zk_B D b0) (zk_A b0)) 0 0 (zk_A b0) := by
  refine zk_enter "java/lang/Throwable" "<init>" rfl rfl (plainFor_of_name (by decide)) [.ref this, va_rf (x1), va_rf (x2), .int (x3), .int (x4)] (by cases x1 <;> cases x2 <;> exact Nat.le_of_ble_eq_true rfl) ?_
  intro p e s m args below meth c X
  refine zk_at0 (L' := [(0, va_rf (some this)), (1, va_rf (x1)), (2, va_rf (x2)), (3, .int (x3)), (4, .int (x4))]) (by cases x1 <;> cases x2 <;> rfl) ?_
  have h := hh
  unfold wp_J13_init_2 at h
  refine zv_aload_n X 0 dJ13_init_2_0 rfl ?_
  refine zv_objInit X q1065 dJ13_init_2_1 (by decide) (by decide) (by decide) ?_
  refine zv_aload_n X 0 dJ13_init_2_4 rfl ?_
  refine zv_aload_n X 0 dJ13_init_2_5 rfl ?_
  refine zv_put_r X fp_q1093 (zk_tyO _) (fun z => by cases z) dJ13_init_2_6 h (fun P6 h => ?_)
  refine zv_aload_n X 0 dJ13_init_2_9 rfl ?_
  refine zv_gets X (i := 7) rfl q1066 rfl dJ13_init_2_10 ?_
  refine zv_put_r X fp_q1094 (zk_tyA _) (fun z => by cases z) dJ13_init_2_13 h (fun P13 h => ?_)
  refine zv_aload_n X 0 dJ13_init_2_16 rfl ?_
  refine zv_gets X (i := 8) rfl q1068 rfl dJ13_init_2_17 ?_
  refine zv_put_r X fp_q1095 (zk_tyO _) (fun z => by cases z) dJ13_init_2_20 h (fun P20 h => ?_)
  refine zv_iload X 4 dJ13_init_2_23 rfl ?_
  refine zv_if_eq X (tgt := 36) dJ13_init_2_25 (by decide) h (fun h => ?_) (fun h => ?_)
  · refine zv_aload_n X 0 dJ13_init_2_36 rfl ?_
    refine zv_null X dJ13_init_2_37 ?_
    refine zv_put_r X fp_q1094 (zk_tyA _) (fun z => by cases z) dJ13_init_2_38 h (fun P38 h => ?_)
    refine zv_aload_n X 0 dJ13_init_2_41 rfl ?_
    refine zv_aload_n X 1 dJ13_init_2_42 rfl ?_
    refine zv_put_r X fp_q1092 (zk_tyO _) (fun z => by cases z) dJ13_init_2_43 h (fun P43 h => ?_)
    refine zv_aload_n X 0 dJ13_init_2_46 rfl ?_
    refine zv_aload_n X 2 dJ13_init_2_47 rfl ?_
    refine zv_put_r X fp_q1093 (zk_tyO _) (fun z => by cases z) dJ13_init_2_48 h (fun P48 h => ?_)
    refine zv_iload_n X 3 dJ13_init_2_51 rfl ?_
    refine zv_if_ne X (tgt := 60) dJ13_init_2_52 (by decide) h (fun h => ?_) (fun h => ?_)
    · exact zv_vret X rfl (by first | exact Nat.le_of_ble_eq_true rfl | omega | (dsimp only; omega)) (by first | exact Nat.le_of_ble_eq_true rfl | omega | (dsimp only; omega)) dJ13_init_2_60 h
    · refine zv_aload_n X 0 dJ13_init_2_55 rfl ?_
      refine zv_null X dJ13_init_2_56 ?_
      refine zv_put_r X fp_q1095 (zk_tyO _) (fun z => by cases z) dJ13_init_2_57 h (fun P57 h => ?_)
      exact zv_vret X rfl (by first | exact Nat.le_of_ble_eq_true rfl | omega | (dsimp only; omega)) (by first | exact Nat.le_of_ble_eq_true rfl | omega | (dsimp only; omega)) dJ13_init_2_60 h
  · refine zv_aload_n X 0 dJ13_init_2_28 rfl ?_
    exact h.elim
theorem md_J14_init : yJ14_init.cls ≠ "java/lang/invoke/MethodHandle" ∧ yJ14_init.cls ≠ "java/lang/invoke/VarHandle" ∧ (parseMethodDescriptor yJ14_init.desc).map (fun d => d.parameters.length) = some 4 := by decide +kernel
theorem wk_J14_init (l : Launch) {D : zk_G} {g : zk_M} {b0 : Nat} {post : zk_H → Prop} {this : Nat} {x1 : Option Nat} {x2 : Option Nat} {x3 : Int32} {x4 : Int32} {P : zk_H} (hh : wp_J14_init g post this x1 x2 x3 x4 P) : Met l yJ14_init (ws_ yJ14_init cJ14_init 5 none) ({ frames := 2, cells := 0, slots := 0, locals := 44 } : Room) (va_Pc [.ref this, va_rf (x1), va_rf (x2), .int (x3), .int (x4)] (zk_pre D g b0 P)) (va_Qv post (zk_B D b0) (zk_A b0)) 0 0 (zk_A b0) := by
  refine zk_enter "java/lang/Exception" "<init>" rfl rfl (plainFor_of_name (by decide)) [.ref this, va_rf (x1), va_rf (x2), .int (x3), .int (x4)] (by cases x1 <;> cases x2 <;> exact Nat.le_of_ble_eq_true rfl) ?_
  intro p e s m args below meth c X
  refine zk_at0 (L' := [(0, va_rf (some this)), (1, va_rf (x1)), (2, va_rf (x2)), (3, .int (x3)), (4, .int (x4))]) (by cases x1 <;> cases x2 <;> rfl) ?_
  have h := hh
  unfold wp_J14_init at h
  refine zv_aload_n X 0 dJ14_init_0 rfl ?_
  refine zv_aload_n X 1 dJ14_init_1 rfl ?_
  refine zv_aload_n X 2 dJ14_init_2 rfl ?_
  refine zv_iload_n X 3 dJ14_init_3 rfl ?_
  refine zv_iload X 4 dJ14_init_4 rfl ?_
  refine zv_cv ((zr_I X (As := [va_rf (x1), va_rf (x2), .int (x3), .int (x4)]) (rest := []) (wk_J13_init_2 l h) (cwI 4 X.hts (lw_meth q1088) rfl rfl rfl (X.w q122) (X.w q1086) (X.w q1087) rfl md_J13_init_2 ⟨Nat.le_of_ble_eq_true rfl, Nat.le_of_ble_eq_true rfl⟩) rfl rfl (zk_rs (Nat.le_of_ble_eq_true rfl)) dJ14_init_6 ⟨by first | exact Nat.le_of_ble_eq_true rfl | omega | (dsimp only; omega), by first | exact Nat.le_of_ble_eq_true rfl | omega | (dsimp only; omega)⟩)) (fun P6 h => ?_)
  exact zv_vret X rfl (by first | exact Nat.le_of_ble_eq_true rfl | omega | (dsimp only; omega)) (by first | exact Nat.le_of_ble_eq_true rfl | omega | (dsimp only; omega)) dJ14_init_9 h
theorem kb_J6_circularClear_12 {p : Program} {l : Launch} {e : Env} {s : State} {m : MethodId} {args : Array Value} {below : List Frame} {meth : Method} {c : Code} {D : zk_G} {g : zk_M} {b0 : Nat} (X : zk_X p s m args meth c D g b0 cJ6_circularClear 4 "java/util/ArrayDeque" "circularClear" none) {post : zk_H → Prop}  {K12 : Int32 → Int32 → zk_H → Prop} {a0 : Option Nat} {a1 : Int32} {a2 : Int32} {a3 : Int32} {P : zk_H}   (hK12 : ∀ (u1 : Int32) (u3 : Int32) (U : zk_H), K12 u1 u3 U → zV p l e ({ frames := 0, cells := 0, slots := 0, locals := 0 } : Room) s m args below meth c D b0 4 (0) (0) (MQ below (va_Qv post (zk_B D b0) (zk_A b0)) args s 0 0 (zk_A b0)) U 12 [(0, va_rf (a0)), (1, .int (u1)), (2, .int (a2)), (3, .int (u3))] [])  (hh : wb_J6_circularClear_12 post a0 a2 K12 a1 a3 P) : zV p l e ({ frames := 0, cells := 0, slots := 0, locals := 0 } : Room) s m args below meth c D b0 4 (0) (0) (MQ below (va_Qv post (zk_B D b0) (zk_A b0)) args s 0 0 (zk_A b0)) P 12 [(0, va_rf (a0)), (1, .int (a1)), (2, .int (a2)), (3, .int (a3))] [] := by
  have h := hh
  unfold wb_J6_circularClear_12 at h
  refine zv_iload_n X 1 dJ6_circularClear_12 rfl ?_
  refine zv_iload_n X 3 dJ6_circularClear_13 rfl ?_
  refine zv_icmp_ge X (tgt := 27) dJ6_circularClear_14 (by decide) h (fun h => ?_) (fun h => ?_)
  · refine zv_iload_n X 3 dJ6_circularClear_27 rfl ?_
    refine zv_iload_n X 2 dJ6_circularClear_28 rfl ?_
    refine zv_icmp_ne X (tgt := 35) dJ6_circularClear_29 (by decide) h (fun h => ?_) (fun h => ?_)
    · refine zv_iconst X (v := 0) dJ6_circularClear_35 rfl ?_
      refine zv_istore_n X (i := 1) (L' := [(1, .int (0)), (0, va_rf (a0)), (2, .int (a2)), (3, .int (a3))]) dJ6_circularClear_36 rfl (by decide) (by simp [zk_s1, zk_s2, zk_rc, zk_ic, zk_jc]) ?_
      refine zv_iload_n X 2 dJ6_circularClear_37 rfl ?_
      refine zv_istore_n X (i := 3) (L' := [(3, .int (a2)), (1, .int (0)), (0, va_rf (a0)), (2, .int (a2))]) dJ6_circularClear_38 rfl (by decide) rfl ?_
      refine zv_goto X (tgt := 12) dJ6_circularClear_39 (by decide) ?_
      refine zv_sub (L' := [(0, va_rf (a0)), (1, .int (0)), (2, .int (a2)), (3, .int (a2))]) [2, 1, 3, 0] rfl ?_
      exact hK12 _ _ _ h
    · refine zv_goto X (tgt := 42) dJ6_circularClear_32 (by decide) ?_
      exact zv_vret X rfl (by first | exact Nat.le_of_ble_eq_true rfl | omega | (dsimp only; omega)) (by first | exact Nat.le_of_ble_eq_true rfl | omega | (dsimp only; omega)) dJ6_circularClear_42 h
  · refine zv_aload_n X 0 dJ6_circularClear_17 rfl ?_
    refine zv_iload_n X 1 dJ6_circularClear_18 rfl ?_
    refine zv_null X dJ6_circularClear_19 ?_
    refine zv_aast X zk_mayok dJ6_circularClear_20 h (fun P20 h => ?_)
    obtain ⟨v21, e21, h⟩ := zt_e h
    refine zv_iinc X (v := v21) (L' := [(1, .int (v21)), (0, va_rf (a0)), (2, .int (a2)), (3, .int (a3))]) 1 dJ6_circularClear_21 rfl e21 (by decide) (by simp [zk_s1, zk_rc, zk_ic, zk_jc]) ?_
    refine zv_goto X (tgt := 12) dJ6_circularClear_24 (by decide) ?_
    refine zv_sub (L' := [(0, va_rf (a0)), (1, .int (v21)), (2, .int (a2)), (3, .int (a3))]) [1, 0, 2, 3] rfl ?_
    exact hK12 _ _ _ h
theorem kl_J6_circularClear_12 {p : Program} {l : Launch} {e : Env} {s : State} {m : MethodId} {args : Array Value} {below : List Frame} {meth : Method} {c : Code} {D : zk_G} {g : zk_M} {b0 : Nat} (X : zk_X p s m args meth c D g b0 cJ6_circularClear 4 "java/util/ArrayDeque" "circularClear" none) {post : zk_H → Prop}  {a0 : Option Nat} {a2 : Int32}   : ∀ (n : Nat) (a1 : Int32) (a3 : Int32) (P : zk_H), wl_J6_circularClear_12 post a0 a2 n a1 a3 P → zV p l e ({ frames := 0, cells := 0, slots := 0, locals := 0 } : Room) s m args below meth c D b0 4 (0) (0) (MQ below (va_Qv post (zk_B D b0) (zk_A b0)) args s 0 0 (zk_A b0)) P 12 [(0, va_rf (a0)), (1, .int (a1)), (2, .int (a2)), (3, .int (a3))] [] := by
  intro n
  induction n with
  | zero => intro _ _ _ h; exact h.elim
  | succ n ih =>
    intro a1 a3 P h
    exact kb_J6_circularClear_12 X  (fun u0 u1 u2 h => ih _ _ _ h)  h
theorem kj_J6_circularClear_11 {p : Program} {l : Launch} {e : Env} {s : State} {m : MethodId} {args : Array Value} {below : List Frame} {meth : Method} {c : Code} {D : zk_G} {g : zk_M} {b0 : Nat} (X : zk_X p s m args meth c D g b0 cJ6_circularClear 4 "java/util/ArrayDeque" "circularClear" none) {post : zk_H → Prop}  {a0 : Option Nat} {a1 : Int32} {a2 : Int32} {s0 : Int32} {P : zk_H}    (hh : wj_J6_circularClear_11 post a0 a1 a2 s0 P) : zV p l e ({ frames := 0, cells := 0, slots := 0, locals := 0 } : Room) s m args below meth c D b0 4 (0) (0) (MQ below (va_Qv post (zk_B D b0) (zk_A b0)) args s 0 0 (zk_A b0)) P 11 [(0, va_rf (a0)), (1, .int (a1)), (2, .int (a2))] [.int (s0)] := by
  have h := hh
  unfold wj_J6_circularClear_11 at h
  refine zv_istore_n X (i := 3) (L' := [(3, .int (s0)), (0, va_rf (a0)), (1, .int (a1)), (2, .int (a2))]) dJ6_circularClear_11 rfl (by decide) rfl ?_
  refine zv_sub (L' := [(0, va_rf (a0)), (1, .int (a1)), (2, .int (a2)), (3, .int (s0))]) [1, 2, 3, 0] rfl ?_
  obtain ⟨n11, h⟩ := h
  exact kl_J6_circularClear_12 X  n11 _ _ _ h
theorem md_J6_circularClear : yJ6_circularClear.cls ≠ "java/lang/invoke/MethodHandle" ∧ yJ6_circularClear.cls ≠ "java/lang/invoke/VarHandle" ∧ (parseMethodDescriptor yJ6_circularClear.desc).map (fun d => d.parameters.length) = some 3 := by decide +kernel
theorem wk_J6_circularClear (l : Launch) {D : zk_G} {g : zk_M} {b0 : Nat} {post : zk_H → Prop} {x0 : Option Nat} {x1 : Int32} {x2 : Int32} {P : zk_H} (hh : wp_J6_circularClear post x0 x1 x2 P) : Met l yJ6_circularClear (ws_ yJ6_circularClear cJ6_circularClear 4 none) ({ frames := 0, cells := 0, slots := 0, locals := 0 } : Room) (va_Pc [va_rf (x0), .int (x1), .int (x2)] (zk_pre D g b0 P)) (va_Qv post (zk_B D b0) (zk_A b0)) 0 0 (zk_A b0) := by
  refine zk_enter "java/util/ArrayDeque" "circularClear" rfl rfl (plainFor_of_name (by decide)) [va_rf (x0), .int (x1), .int (x2)] (by cases x0 <;> exact Nat.le_of_ble_eq_true rfl) ?_
  intro p e s m args below meth c X
  refine zk_at0 (L' := [(0, va_rf (x0)), (1, .int (x1)), (2, .int (x2))]) (by cases x0 <;> rfl) ?_
  have h := hh
  unfold wp_J6_circularClear at h
  refine zv_iload_n X 1 dJ6_circularClear_0 rfl ?_
  refine zv_iload_n X 2 dJ6_circularClear_1 rfl ?_
  refine zv_icmp_gt X (tgt := 9) dJ6_circularClear_2 (by decide) h (fun h => ?_) (fun h => ?_)
  · refine zv_aload_n X 0 dJ6_circularClear_9 rfl ?_
    refine zv_alen X dJ6_circularClear_10 h (fun v10 h => ?_)
    exact kj_J6_circularClear_11 X  h
  · refine zv_iload_n X 2 dJ6_circularClear_5 rfl ?_
    refine zv_goto X (tgt := 11) dJ6_circularClear_6 (by decide) ?_
    exact kj_J6_circularClear_11 X  h
theorem md_J6_clear : yJ6_clear.cls ≠ "java/lang/invoke/MethodHandle" ∧ yJ6_clear.cls ≠ "java/lang/invoke/VarHandle" ∧ (parseMethodDescriptor yJ6_clear.desc).map (fun d => d.parameters.length) = some 0 := by decide +kernel
theorem wk_J6_clear (l : Launch) {D : zk_G} {g : zk_M} {b0 : Nat} {post : zk_H → Prop} {this : Nat} {P : zk_H} (hh : wp_J6_clear post this P) : Met l yJ6_clear (ws_ yJ6_clear cJ6_clear 1 none) ({ frames := 1, cells := 0, slots := 0, locals := 23 } : Room) (va_Pc [.ref this] (zk_pre D g b0 P)) (va_Qv post (zk_B D b0) (zk_A b0)) 0 0 (zk_A b0) := by
  refine zk_enter "java/util/ArrayDeque" "clear" rfl rfl (plainFor_of_name (by decide)) [.ref this] (Nat.le_of_ble_eq_true rfl) ?_
  intro p e s m args below meth c X
  refine zk_at0 (L' := [(0, va_rf (some this))]) (rfl) ?_
  have h := hh
  unfold wp_J6_clear at h
  refine zv_aload_n X 0 dJ6_clear_0 rfl ?_
  refine zv_getf_r X fo_q391 dJ6_clear_1 h (fun v1 h => ?_)
  refine zv_aload_n X 0 dJ6_clear_4 rfl ?_
  refine zv_getf_i X fo_q392 dJ6_clear_5 h (fun v5 h => ?_)
  refine zv_aload_n X 0 dJ6_clear_8 rfl ?_
  refine zv_getf_i X fo_q393 dJ6_clear_9 h (fun v9 h => ?_)
  refine zv_cv ((zr_S X (As := [va_rf (v1), .int (v5), .int (v9)]) (rest := []) (wk_J6_circularClear l h) (va_cwS 3 X.hts (lw_S q1301 q1302 q113 q1303) rfl rfl rfl md_J6_circularClear ⟨Nat.le_of_ble_eq_true rfl, Nat.le_of_ble_eq_true rfl⟩) rfl rfl (zk_rs (Nat.le_of_ble_eq_true rfl)) dJ6_clear_12 ⟨by first | exact Nat.le_of_ble_eq_true rfl | omega | (dsimp only; omega), by first | exact Nat.le_of_ble_eq_true rfl | omega | (dsimp only; omega)⟩)) (fun P12 h => ?_)
  refine zv_aload_n X 0 dJ6_clear_15 rfl ?_
  refine zv_aload_n X 0 dJ6_clear_16 rfl ?_
  refine zv_iconst X (v := 0) dJ6_clear_17 rfl ?_
  refine zv_dup_x1 X dJ6_clear_18 rfl (zk_rc _) ?_
  refine zv_put_i X fp_q393 (fun z => by cases z) dJ6_clear_19 h (fun P19 h => ?_)
  refine zv_put_i X fp_q392 (fun z => by cases z) dJ6_clear_22 h (fun P22 h => ?_)
  exact zv_vret X rfl (by first | exact Nat.le_of_ble_eq_true rfl | omega | (dsimp only; omega)) (by first | exact Nat.le_of_ble_eq_true rfl | omega | (dsimp only; omega)) dJ6_clear_25 h
