/-! walks, printed by gen/run.py -/
theorem md_X1_init : yX1_init.cls ≠ "java/lang/invoke/MethodHandle" ∧ yX1_init.cls ≠ "java/lang/invoke/VarHandle" ∧ (parseMethodDescriptor yX1_init.desc).map (fun d => d.parameters.length) = some 0 := by decide +kernel
theorem wk_X1_init (l : Launch) {D : zk_G} {g : zk_M} {b0 : Nat} {post : zk_H → Prop} {this : Nat} {P : zk_H} (hh : wp_X1_init g post this P) : Met l yX1_init (ws_ yX1_init cX1_init 1 none) ({ frames := 4, cells := 5, slots := 15, locals := 80 } : Room) (va_Pc [.ref this] (zk_pre D g b0 P)) (va_Qv post (zk_B D b0) (zk_A b0)) 5 15 (zk_A b0) := by
  refine zk_enter "LandFolio$Folio" "<init>" rfl rfl (plainFor_of_name (by decide)) [.ref this] (Nat.le_of_ble_eq_true rfl) ?_
  intro p e s m args below meth c X
  refine zk_at0 (L' := [(0, va_rf (some this))]) (rfl) ?_
  have h := hh
  unfold wp_X1_init at h
  refine zv_aload_n X 0 dX1_init_0 rfl ?_
  refine zv_objInit X q156 dX1_init_1 (by decide) (by decide) (by decide) ?_
  refine zv_aload_n X 0 dX1_init_4 rfl ?_
  refine zv_new X zk_nc12 q157 (by first | exact Nat.le_of_ble_eq_true rfl | omega | (dsimp only; omega)) (by first | exact Nat.le_of_ble_eq_true rfl | omega | (dsimp only; omega)) dX1_init_5 h (fun v5 P5 h => ?_)
  refine zv_dup X dX1_init_8 (zk_rc _) ?_
  refine zv_cv ((zr_I X (As := []) (rest := [va_rf (some v5), va_rf (some this)]) (wk_J2_init l h) (cwI 0 X.hts (lw_meth q161) rfl rfl rfl (X.w q106) (X.w q159) (X.w q160) rfl md_J2_init ⟨Nat.le_of_ble_eq_true rfl, Nat.le_of_ble_eq_true rfl⟩) rfl rfl (zk_rs (Nat.le_of_ble_eq_true rfl)) dX1_init_9 ⟨by first | exact Nat.le_of_ble_eq_true rfl | omega | (dsimp only; omega), by first | exact Nat.le_of_ble_eq_true rfl | omega | (dsimp only; omega)⟩)) (fun P9 h => ?_)
  refine zv_put_r X fp_q191 (zk_tyO _) (fun _ => rfl) dX1_init_12 h (fun P12 h => ?_)
  refine zv_aload_n X 0 dX1_init_15 rfl ?_
  refine zv_new X zk_nc12 q157 (by first | exact Nat.le_of_ble_eq_true rfl | omega | (dsimp only; omega)) (by first | exact Nat.le_of_ble_eq_true rfl | omega | (dsimp only; omega)) dX1_init_16 h (fun v16 P16 h => ?_)
  refine zv_dup X dX1_init_19 (zk_rc _) ?_
  refine zv_cv ((zr_I X (As := []) (rest := [va_rf (some v16), va_rf (some this)]) (wk_J2_init l h) (cwI 0 X.hts (lw_meth q161) rfl rfl rfl (X.w q106) (X.w q159) (X.w q160) rfl md_J2_init ⟨Nat.le_of_ble_eq_true rfl, Nat.le_of_ble_eq_true rfl⟩) rfl rfl (zk_rs (Nat.le_of_ble_eq_true rfl)) dX1_init_20 ⟨by first | exact Nat.le_of_ble_eq_true rfl | omega | (dsimp only; omega), by first | exact Nat.le_of_ble_eq_true rfl | omega | (dsimp only; omega)⟩)) (fun P20 h => ?_)
  refine zv_put_r X fp_q194 (zk_tyO _) (fun _ => rfl) dX1_init_23 h (fun P23 h => ?_)
  refine zv_aload_n X 0 dX1_init_26 rfl ?_
  refine zv_new X zk_nc12 q157 (by first | exact Nat.le_of_ble_eq_true rfl | omega | (dsimp only; omega)) (by first | exact Nat.le_of_ble_eq_true rfl | omega | (dsimp only; omega)) dX1_init_27 h (fun v27 P27 h => ?_)
  refine zv_dup X dX1_init_30 (zk_rc _) ?_
  refine zv_cv ((zr_I X (As := []) (rest := [va_rf (some v27), va_rf (some this)]) (wk_J2_init l h) (cwI 0 X.hts (lw_meth q161) rfl rfl rfl (X.w q106) (X.w q159) (X.w q160) rfl md_J2_init ⟨Nat.le_of_ble_eq_true rfl, Nat.le_of_ble_eq_true rfl⟩) rfl rfl (zk_rs (Nat.le_of_ble_eq_true rfl)) dX1_init_31 ⟨by first | exact Nat.le_of_ble_eq_true rfl | omega | (dsimp only; omega), by first | exact Nat.le_of_ble_eq_true rfl | omega | (dsimp only; omega)⟩)) (fun P31 h => ?_)
  refine zv_put_r X fp_q197 (zk_tyO _) (fun _ => rfl) dX1_init_34 h (fun P34 h => ?_)
  refine zv_aload_n X 0 dX1_init_37 rfl ?_
  refine zv_new X zk_nc12 q157 (by first | exact Nat.le_of_ble_eq_true rfl | omega | (dsimp only; omega)) (by first | exact Nat.le_of_ble_eq_true rfl | omega | (dsimp only; omega)) dX1_init_38 h (fun v38 P38 h => ?_)
  refine zv_dup X dX1_init_41 (zk_rc _) ?_
  refine zv_cv ((zr_I X (As := []) (rest := [va_rf (some v38), va_rf (some this)]) (wk_J2_init l h) (cwI 0 X.hts (lw_meth q161) rfl rfl rfl (X.w q106) (X.w q159) (X.w q160) rfl md_J2_init ⟨Nat.le_of_ble_eq_true rfl, Nat.le_of_ble_eq_true rfl⟩) rfl rfl (zk_rs (Nat.le_of_ble_eq_true rfl)) dX1_init_42 ⟨by first | exact Nat.le_of_ble_eq_true rfl | omega | (dsimp only; omega), by first | exact Nat.le_of_ble_eq_true rfl | omega | (dsimp only; omega)⟩)) (fun P42 h => ?_)
  refine zv_put_r X fp_q199 (zk_tyO _) (fun _ => rfl) dX1_init_45 h (fun P45 h => ?_)
  refine zv_aload_n X 0 dX1_init_48 rfl ?_
  refine zv_new X zk_nc12 q157 (by first | exact Nat.le_of_ble_eq_true rfl | omega | (dsimp only; omega)) (by first | exact Nat.le_of_ble_eq_true rfl | omega | (dsimp only; omega)) dX1_init_49 h (fun v49 P49 h => ?_)
  refine zv_dup X dX1_init_52 (zk_rc _) ?_
  refine zv_cv ((zr_I X (As := []) (rest := [va_rf (some v49), va_rf (some this)]) (wk_J2_init l h) (cwI 0 X.hts (lw_meth q161) rfl rfl rfl (X.w q106) (X.w q159) (X.w q160) rfl md_J2_init ⟨Nat.le_of_ble_eq_true rfl, Nat.le_of_ble_eq_true rfl⟩) rfl rfl (zk_rs (Nat.le_of_ble_eq_true rfl)) dX1_init_53 ⟨by first | exact Nat.le_of_ble_eq_true rfl | omega | (dsimp only; omega), by first | exact Nat.le_of_ble_eq_true rfl | omega | (dsimp only; omega)⟩)) (fun P53 h => ?_)
  refine zv_put_r X fp_q203 (zk_tyO _) (fun _ => rfl) dX1_init_56 h (fun P56 h => ?_)
  exact zv_vret X rfl (by first | exact Nat.le_of_ble_eq_true rfl | omega | (dsimp only; omega)) (by first | exact Nat.le_of_ble_eq_true rfl | omega | (dsimp only; omega)) dX1_init_59 h
theorem md_X2_init : yX2_init.cls ≠ "java/lang/invoke/MethodHandle" ∧ yX2_init.cls ≠ "java/lang/invoke/VarHandle" ∧ (parseMethodDescriptor yX2_init.desc).map (fun d => d.parameters.length) = some 7 := by decide +kernel
theorem wk_X2_init (l : Launch) {D : zk_G} {g : zk_M} {b0 : Nat} {post : zk_H → Prop} {this : Nat} {x1 : Int32} {x2 : Int32} {x3 : Int32} {x4 : Int32} {x5 : Int32} {x6 : Int32} {x7 : Int32} {P : zk_H} (hh : wp_X2_init post this x1 x2 x3 x4 x5 x6 x7 P) : Met l yX2_init (ws_ yX2_init cX2_init 8 none) ({ frames := 1, cells := 0, slots := 0, locals := 20 } : Room) (va_Pc [.ref this, .int (x1), .int (x2), .int (x3), .int (x4), .int (x5), .int (x6), .int (x7)] (zk_pre D g b0 P)) (va_Qv post (zk_B D b0) (zk_A b0)) 0 0 (zk_A b0) := by
  refine zk_enter "LandFolio$Parcel" "<init>" rfl rfl (plainFor_of_name (by decide)) [.ref this, .int (x1), .int (x2), .int (x3), .int (x4), .int (x5), .int (x6), .int (x7)] (Nat.le_of_ble_eq_true rfl) ?_
  intro p e s m args below meth c X
  refine zk_at0 (L' := [(0, va_rf (some this)), (1, .int (x1)), (2, .int (x2)), (3, .int (x3)), (4, .int (x4)), (5, .int (x5)), (6, .int (x6)), (7, .int (x7))]) (rfl) ?_
  have h := hh
  unfold wp_X2_init at h
  refine zv_aload_n X 0 dX2_init_0 rfl ?_
  refine zv_objInit X q305 dX2_init_1 (by decide) (by decide) (by decide) ?_
  refine zv_aload_n X 0 dX2_init_4 rfl ?_
  refine zv_bipush X (v := -2) dX2_init_5 rfl ?_
  refine zv_put_i X fp_q326 (fun z => by cases z) dX2_init_7 h (fun P7 h => ?_)
  refine zv_aload_n X 0 dX2_init_10 rfl ?_
  refine zv_iload_n X 1 dX2_init_11 rfl ?_
  refine zv_put_i X fp_q306 (fun _ => rfl) dX2_init_12 h (fun P12 h => ?_)
  refine zv_aload_n X 0 dX2_init_15 rfl ?_
  refine zv_iload_n X 2 dX2_init_16 rfl ?_
  refine zv_put_i X fp_q310 (fun _ => rfl) dX2_init_17 h (fun P17 h => ?_)
  refine zv_aload_n X 0 dX2_init_20 rfl ?_
  refine zv_iload_n X 3 dX2_init_21 rfl ?_
  refine zv_put_i X fp_q313 (fun _ => rfl) dX2_init_22 h (fun P22 h => ?_)
  refine zv_aload_n X 0 dX2_init_25 rfl ?_
  refine zv_iload X 4 dX2_init_26 rfl ?_
  refine zv_put_i X fp_q317 (fun _ => rfl) dX2_init_28 h (fun P28 h => ?_)
  refine zv_aload_n X 0 dX2_init_31 rfl ?_
  refine zv_iload X 5 dX2_init_32 rfl ?_
  refine zv_put_i X fp_q320 (fun _ => rfl) dX2_init_34 h (fun P34 h => ?_)
  refine zv_aload_n X 0 dX2_init_37 rfl ?_
  refine zv_iload X 6 dX2_init_38 rfl ?_
  refine zv_put_i X fp_q322 (fun _ => rfl) dX2_init_40 h (fun P40 h => ?_)
  refine zv_aload_n X 0 dX2_init_43 rfl ?_
  refine zv_iload X 7 dX2_init_44 rfl ?_
  refine zv_put_i X fp_q324 (fun _ => rfl) dX2_init_46 h (fun P46 h => ?_)
  exact zv_vret X rfl (by first | exact Nat.le_of_ble_eq_true rfl | omega | (dsimp only; omega)) (by first | exact Nat.le_of_ble_eq_true rfl | omega | (dsimp only; omega)) dX2_init_49 h
theorem md_X3_init : yX3_init.cls ≠ "java/lang/invoke/MethodHandle" ∧ yX3_init.cls ≠ "java/lang/invoke/VarHandle" ∧ (parseMethodDescriptor yX3_init.desc).map (fun d => d.parameters.length) = some 3 := by decide +kernel
theorem wk_X3_init (l : Launch) {D : zk_G} {g : zk_M} {b0 : Nat} {post : zk_H → Prop} {this : Nat} {x1 : Int32} {x2 : Int32} {x3 : Option Nat} {P : zk_H} (hh : wp_X3_init post this x1 x2 x3 P) : Met l yX3_init (ws_ yX3_init cX3_init 4 none) ({ frames := 1, cells := 0, slots := 0, locals := 20 } : Room) (va_Pc [.ref this, .int (x1), .int (x2), va_rf (x3)] (zk_pre D g b0 P)) (va_Qv post (zk_B D b0) (zk_A b0)) 0 0 (zk_A b0) := by
  refine zk_enter "LandFolio$Deed" "<init>" rfl rfl (plainFor_of_name (by decide)) [.ref this, .int (x1), .int (x2), va_rf (x3)] (by cases x3 <;> exact Nat.le_of_ble_eq_true rfl) ?_
  intro p e s m args below meth c X
  refine zk_at0 (L' := [(0, va_rf (some this)), (1, .int (x1)), (2, .int (x2)), (3, va_rf (x3))]) (by cases x3 <;> rfl) ?_
  have h := hh
  unfold wp_X3_init at h
  refine zv_aload_n X 0 dX3_init_0 rfl ?_
  refine zv_objInit X q368 dX3_init_1 (by decide) (by decide) (by decide) ?_
  refine zv_aload_n X 0 dX3_init_4 rfl ?_
  refine zv_iload_n X 1 dX3_init_5 rfl ?_
  refine zv_put_i X fp_q369 (fun _ => rfl) dX3_init_6 h (fun P6 h => ?_)
  refine zv_aload_n X 0 dX3_init_9 rfl ?_
  refine zv_iload_n X 2 dX3_init_10 rfl ?_
  refine zv_put_i X fp_q371 (fun _ => rfl) dX3_init_11 h (fun P11 h => ?_)
  refine zv_aload_n X 0 dX3_init_14 rfl ?_
  refine zv_aload_n X 3 dX3_init_15 rfl ?_
  refine zv_put_r X fp_q373 (zk_tyA _) (fun _ => rfl) dX3_init_16 h (fun P16 h => ?_)
  exact zv_vret X rfl (by first | exact Nat.le_of_ble_eq_true rfl | omega | (dsimp only; omega)) (by first | exact Nat.le_of_ble_eq_true rfl | omega | (dsimp only; omega)) dX3_init_19 h
theorem md_X1_comes : yX1_comes.cls ≠ "java/lang/invoke/MethodHandle" ∧ yX1_comes.cls ≠ "java/lang/invoke/VarHandle" ∧ (parseMethodDescriptor yX1_comes.desc).map (fun d => d.parameters.length) = some 2 := by decide +kernel
theorem wk_X1_comes (l : Launch) {D : zk_G} {g : zk_M} {b0 : Nat} {post : Int32 → zk_H → Prop} {this : Nat} {x1 : Option Nat} {x2 : Option Nat} {P : zk_H} (hh : wp_X1_comes g post this x1 x2 P) : Met l yX1_comes (ws_ yX1_comes cX1_comes 3 (some Jvm.ClassFile.FieldType.int)) ({ frames := 7, cells := 3, slots := 195, locals := 171 } : Room) (va_Pc [.ref this, va_rf (x1), va_rf (x2)] (zk_pre D g b0 P)) (va_Qi post (zk_B D b0) (zk_A b0)) 3 195 (zk_A b0) := by
  refine zk_enter "LandFolio$Folio" "comes" rfl rfl (plainFor_of_name (by decide)) [.ref this, va_rf (x1), va_rf (x2)] (by cases x1 <;> cases x2 <;> exact Nat.le_of_ble_eq_true rfl) ?_
  intro p e s m args below meth c X
  refine zk_at0 (L' := [(0, va_rf (some this)), (1, va_rf (x1)), (2, va_rf (x2))]) (by cases x1 <;> cases x2 <;> rfl) ?_
  have h := hh
  unfold wp_X1_comes at h
  refine zv_aload_n X 0 dX1_comes_0 rfl ?_
  refine zv_getf_r X fo_q194 dX1_comes_1 h (fun v1 h => ?_)
  refine zv_aload_n X 1 dX1_comes_4 rfl ?_
  refine zv_ci ((zr_Vl X (As := [va_rf (x1)]) (rest := []) h (fun a h => wk_J2_add l h) (zk_l1 ⟨_, rfl, cwV 1 X.hts (lw_V q358 q226 q227 q106 q228) rfl rfl rfl ⟨rfl, md_J2_add⟩ ⟨Nat.le_of_ble_eq_true rfl, Nat.le_of_ble_eq_true rfl⟩⟩) rfl rfl (zk_rs (Nat.le_of_ble_eq_true rfl)) dX1_comes_5 ⟨by first | exact Nat.le_of_ble_eq_true rfl | omega | (dsimp only; omega), by first | exact Nat.le_of_ble_eq_true rfl | omega | (dsimp only; omega)⟩)) (fun v5 P5 h => ?_)
  refine zv_pop X dX1_comes_8 rfl ?_
  refine zv_aload_n X 0 dX1_comes_9 rfl ?_
  refine zv_getf_r X fo_q197 dX1_comes_10 h (fun v10 h => ?_)
  refine zv_new X zk_nc3 q359 (by first | exact Nat.le_of_ble_eq_true rfl | omega | (dsimp only; omega)) (by first | exact Nat.le_of_ble_eq_true rfl | omega | (dsimp only; omega)) dX1_comes_13 h (fun v13 P13 h => ?_)
  refine zv_dup X dX1_comes_16 (zk_rc _) ?_
  refine zv_aload_n X 0 dX1_comes_17 rfl ?_
  refine zv_getf_r X fo_q194 dX1_comes_18 h (fun v18 h => ?_)
  refine zv_ciR ((zr_Vl X (As := []) (rest := [va_rf (some v13), va_rf (some v13), va_rf (v10)]) h (fun a h => wk_J2_size l h) (zk_l1 ⟨_, rfl, cwV 0 X.hts (lw_V q361 q362 q363 q106 q364) rfl rfl rfl ⟨rfl, md_J2_size⟩ ⟨Nat.le_of_ble_eq_true rfl, Nat.le_of_ble_eq_true rfl⟩⟩) rfl rfl (zk_rs (Nat.le_of_ble_eq_true rfl)) dX1_comes_21 ⟨by first | exact Nat.le_of_ble_eq_true rfl | omega | (dsimp only; omega), by first | exact Nat.le_of_ble_eq_true rfl | omega | (dsimp only; omega)⟩)) (fun v21 h => ?_)
  refine zv_iconst X (v := 1) dX1_comes_24 rfl ?_
  refine zv_isub X dX1_comes_25 ?_
  refine zv_aload_n X 0 dX1_comes_26 rfl ?_
  refine zv_getf_i X fo_q189 dX1_comes_27 h (fun v27 h => ?_)
  refine zv_aload_n X 2 dX1_comes_30 rfl ?_
  refine zv_cv ((zr_I X (As := [.int (v21 - 1), .int (v27), va_rf (x2)]) (rest := [va_rf (some v13), va_rf (v10)]) (wk_X3_init l h) (cwI 3 X.hts (lw_meth q367) rfl rfl rfl (X.w q112) (X.w q365) (X.w q366) rfl md_X3_init ⟨Nat.le_of_ble_eq_true rfl, Nat.le_of_ble_eq_true rfl⟩) rfl rfl (zk_rs (Nat.le_of_ble_eq_true rfl)) dX1_comes_31 ⟨by first | exact Nat.le_of_ble_eq_true rfl | omega | (dsimp only; omega), by first | exact Nat.le_of_ble_eq_true rfl | omega | (dsimp only; omega)⟩)) (fun P31 h => ?_)
  refine zv_ci ((zr_Vl X (As := [va_rf (some v13)]) (rest := []) h (fun a h => wk_J2_add l h) (zk_l1 ⟨_, rfl, cwV 1 X.hts (lw_V q358 q226 q227 q106 q228) rfl rfl rfl ⟨rfl, md_J2_add⟩ ⟨Nat.le_of_ble_eq_true rfl, Nat.le_of_ble_eq_true rfl⟩⟩) rfl rfl (zk_rs (Nat.le_of_ble_eq_true rfl)) dX1_comes_34 ⟨by first | exact Nat.le_of_ble_eq_true rfl | omega | (dsimp only; omega), by first | exact Nat.le_of_ble_eq_true rfl | omega | (dsimp only; omega)⟩)) (fun v34 P34 h => ?_)
  refine zv_pop X dX1_comes_37 rfl ?_
  refine zv_aload_n X 0 dX1_comes_38 rfl ?_
  refine zv_getf_r X fo_q194 dX1_comes_39 h (fun v39 h => ?_)
  refine zv_ciR ((zr_Vl X (As := []) (rest := []) h (fun a h => wk_J2_size l h) (zk_l1 ⟨_, rfl, cwV 0 X.hts (lw_V q361 q362 q363 q106 q364) rfl rfl rfl ⟨rfl, md_J2_size⟩ ⟨Nat.le_of_ble_eq_true rfl, Nat.le_of_ble_eq_true rfl⟩⟩) rfl rfl (zk_rs (Nat.le_of_ble_eq_true rfl)) dX1_comes_42 ⟨by first | exact Nat.le_of_ble_eq_true rfl | omega | (dsimp only; omega), by first | exact Nat.le_of_ble_eq_true rfl | omega | (dsimp only; omega)⟩)) (fun v42 h => ?_)
  refine zv_iconst X (v := 1) dX1_comes_45 rfl ?_
  refine zv_isub X dX1_comes_46 ?_
  exact zv_iret X rfl (by first | exact Nat.le_of_ble_eq_true rfl | omega | (dsimp only; omega)) (by first | exact Nat.le_of_ble_eq_true rfl | omega | (dsimp only; omega)) dX1_comes_47 h
theorem md_X1_begins : yX1_begins.cls ≠ "java/lang/invoke/MethodHandle" ∧ yX1_begins.cls ≠ "java/lang/invoke/VarHandle" ∧ (parseMethodDescriptor yX1_begins.desc).map (fun d => d.parameters.length) = some 3 := by decide +kernel
theorem wk_X1_begins (l : Launch) {D : zk_G} {g : zk_M} {b0 : Nat} {post : zk_H → Prop} {this : Nat} {x1 : Int32} {x2 : Int32} {x3 : Int32} {P : zk_H} (hh : wp_X1_begins g post this x1 x2 x3 P) : Met l yX1_begins (ws_ yX1_begins cX1_begins 5 none) ({ frames := 8, cells := 5, slots := 210, locals := 193 } : Room) (va_Pc [.ref this, .int (x1), .int (x2), .int (x3)] (zk_pre D g b0 P)) (va_Qv post (zk_B D b0) (zk_A b0)) 5 210 (zk_A b0) := by
  refine zk_enter "LandFolio$Folio" "begins" rfl rfl (plainFor_of_name (by decide)) [.ref this, .int (x1), .int (x2), .int (x3)] (Nat.le_of_ble_eq_true rfl) ?_
  intro p e s m args below meth c X
  refine zk_at0 (L' := [(0, va_rf (some this)), (1, .int (x1)), (2, .int (x2)), (3, .int (x3))]) (rfl) ?_
  have h := hh
  unfold wp_X1_begins at h
  refine zv_aload_n X 0 dX1_begins_0 rfl ?_
  refine zv_iload_n X 1 dX1_begins_1 rfl ?_
  refine zv_put_i X fp_q183 (fun z => by cases z) dX1_begins_2 h (fun P2 h => ?_)
  refine zv_aload_n X 0 dX1_begins_5 rfl ?_
  refine zv_iload_n X 2 dX1_begins_6 rfl ?_
  refine zv_put_i X fp_q185 (fun z => by cases z) dX1_begins_7 h (fun P7 h => ?_)
  refine zv_aload_n X 0 dX1_begins_10 rfl ?_
  refine zv_iload_n X 3 dX1_begins_11 rfl ?_
  refine zv_put_i X fp_q187 (fun z => by cases z) dX1_begins_12 h (fun P12 h => ?_)
  refine zv_bipush X (v := 6) dX1_begins_15 rfl ?_
  refine zv_newa X (ty := .int) rfl (by decide) (fun _ h => h) (fun _ => rfl) q353 (by decide) (by first | exact Nat.le_of_ble_eq_true rfl | omega | (dsimp only; omega)) (by first | exact Nat.le_of_ble_eq_true rfl | omega | (dsimp only; omega)) dX1_begins_17 h (fun v17 P17 h => ?_)
  refine zv_astore X (L' := [(4, va_rf (some v17)), (0, va_rf (some this)), (1, .int (x1)), (2, .int (x2)), (3, .int (x3))]) dX1_begins_19 (by decide) rfl ?_
  refine zv_aload X 0 dX1_begins_21 rfl ?_
  refine zv_iconst X (v := 0) dX1_begins_23 rfl ?_
  refine zv_bipush X (v := 12) dX1_begins_24 rfl ?_
  refine zv_iast X dX1_begins_26 h (fun P26 h => ?_)
  refine zv_aload_n X 1 dX1_begins_27 rfl ?_
  refine zv_new X zk_nc2 q300 (by first | exact Nat.le_of_ble_eq_true rfl | omega | (dsimp only; omega)) (by first | exact Nat.le_of_ble_eq_true rfl | omega | (dsimp only; omega)) dX1_begins_28 h (fun v28 P28 h => ?_)
  refine zv_dup X dX1_begins_31 (zk_rc _) ?_
  refine zv_iconst X (v := 0) dX1_begins_32 rfl ?_
  refine zv_iconst X (v := 0) dX1_begins_33 rfl ?_
  refine zv_aload_n X 1 dX1_begins_34 rfl ?_
  refine zv_getf_i X fo_q183 dX1_begins_35 h (fun v35 h => ?_)
  refine zv_aload_n X 1 dX1_begins_38 rfl ?_
  refine zv_getf_i X fo_q185 dX1_begins_39 h (fun v39 h => ?_)
  refine zv_iconst X (v := 0) dX1_begins_42 rfl ?_
  refine zv_bipush X (v := -2) dX1_begins_43 rfl ?_
  refine zv_bipush X (v := -2) dX1_begins_45 rfl ?_
  refine zv_cv ((zr_I X (As := [.int (0), .int (0), .int (v35), .int (v39), .int (0), .int (-2), .int (-2)]) (rest := [va_rf (some v28), va_rf (some this)]) (wk_X2_init l h) (cwI 7 X.hts (lw_meth q304) rfl rfl rfl (X.w q111) (X.w q302) (X.w q303) rfl md_X2_init ⟨Nat.le_of_ble_eq_true rfl, Nat.le_of_ble_eq_true rfl⟩) rfl rfl (zk_rs (Nat.le_of_ble_eq_true rfl)) dX1_begins_47 ⟨by first | exact Nat.le_of_ble_eq_true rfl | omega | (dsimp only; omega), by first | exact Nat.le_of_ble_eq_true rfl | omega | (dsimp only; omega)⟩)) (fun P47 h => ?_)
  refine zv_aload X 0 dX1_begins_50 rfl ?_
  refine zv_ci ((zr_Vl X (As := [va_rf (some v28), va_rf (some v17)]) (rest := []) h (fun a h => wk_X1_comes l h) (zk_l1 ⟨_, rfl, cwV 2 X.hts (lw_V q354 q355 q356 q103 q357) rfl rfl rfl ⟨rfl, md_X1_comes⟩ ⟨Nat.le_of_ble_eq_true rfl, Nat.le_of_ble_eq_true rfl⟩⟩) rfl rfl (zk_rs (Nat.le_of_ble_eq_true rfl)) dX1_begins_52 ⟨by first | exact Nat.le_of_ble_eq_true rfl | omega | (dsimp only; omega), by first | exact Nat.le_of_ble_eq_true rfl | omega | (dsimp only; omega)⟩)) (fun v52 P52 h => ?_)
  refine zv_pop X dX1_begins_55 rfl ?_
  exact zv_vret X rfl (by first | exact Nat.le_of_ble_eq_true rfl | omega | (dsimp only; omega)) (by first | exact Nat.le_of_ble_eq_true rfl | omega | (dsimp only; omega)) dX1_begins_56 h
theorem md_X0_first : yX0_first.cls ≠ "java/lang/invoke/MethodHandle" ∧ yX0_first.cls ≠ "java/lang/invoke/VarHandle" ∧ (parseMethodDescriptor yX0_first.desc).map (fun d => d.parameters.length) = some 0 := by decide +kernel
theorem wk_X0_first (l : Launch) {D : zk_G} {g : zk_M} {b0 : Nat} {post : Option Nat → zk_H → Prop}  {P : zk_H} (hh : wp_X0_first g post P) : Met l yX0_first (ws_ yX0_first cX0_first 1 (some (Jvm.ClassFile.FieldType.object "LandFolio$Folio"))) ({ frames := 9, cells := 12, slots := 330, locals := 217 } : Room) (va_Pc [] (zk_pre D g b0 P)) (va_Qq post (zk_B D b0) (zk_A b0)) 12 330 (zk_A b0) := by
  refine zk_enter "LandFolio" "first" rfl rfl (plainFor_of_name (by decide)) [] (Nat.le_of_ble_eq_true rfl) ?_
  intro p e s m args below meth c X
  refine zk_at0 (L' := []) (rfl) ?_
  have h := hh
  unfold wp_X0_first at h
  refine zv_new X zk_nc1 q151 (by first | exact Nat.le_of_ble_eq_true rfl | omega | (dsimp only; omega)) (by first | exact Nat.le_of_ble_eq_true rfl | omega | (dsimp only; omega)) dX0_first_0 h (fun v0 P0 h => ?_)
  refine zv_dup X dX0_first_3 (zk_rc _) ?_
  refine zv_cv ((zr_IN X (As := []) (rest := [va_rf (some v0)]) (wk_X1_init l h) ⟨zk_cwN X 0 q153 (lw_meth q155) q103 md_X1_init ⟨Nat.le_of_ble_eq_true rfl, Nat.le_of_ble_eq_true rfl⟩, rfl, q154⟩ rfl rfl (zk_rs (Nat.le_of_ble_eq_true rfl)) dX0_first_4 ⟨by first | exact Nat.le_of_ble_eq_true rfl | omega | (dsimp only; omega), by first | exact Nat.le_of_ble_eq_true rfl | omega | (dsimp only; omega)⟩)) (fun P4 h => ?_)
  refine zv_astore_n X (i := 0) (L' := [(0, va_rf (some v0))]) dX0_first_7 rfl (by decide) rfl ?_
  refine zv_aload_n X 0 dX0_first_8 rfl ?_
  refine zv_getf_r X fo_q192 dX0_first_9 h (fun v9 h => ?_)
  refine zv_ldcS X (i := 0) rfl dX0_first_12 ?_
  refine zv_ci ((zr_Vl X (As := [va_rf (some (g 0))]) (rest := []) h (fun a h => wk_J2_add l h) (zk_l1 ⟨_, rfl, cwV 1 X.hts (lw_V q225 q226 q227 q106 q228) rfl rfl rfl ⟨rfl, md_J2_add⟩ ⟨Nat.le_of_ble_eq_true rfl, Nat.le_of_ble_eq_true rfl⟩⟩) rfl rfl (zk_rs (Nat.le_of_ble_eq_true rfl)) dX0_first_14 ⟨by first | exact Nat.le_of_ble_eq_true rfl | omega | (dsimp only; omega), by first | exact Nat.le_of_ble_eq_true rfl | omega | (dsimp only; omega)⟩)) (fun v14 P14 h => ?_)
  refine zv_pop X dX0_first_17 rfl ?_
  refine zv_aload_n X 0 dX0_first_18 rfl ?_
  refine zv_bipush X (v := 8) dX0_first_19 rfl ?_
  refine zv_bipush X (v := 6) dX0_first_21 rfl ?_
  refine zv_bipush X (v := 10) dX0_first_23 rfl ?_
  refine zv_cv ((zr_Vl X (As := [.int (8), .int (6), .int (10)]) (rest := []) h (fun a h => wk_X1_begins l h) (zk_l1 ⟨_, rfl, cwV 3 X.hts (lw_V q296 q297 q298 q103 q299) rfl rfl rfl ⟨rfl, md_X1_begins⟩ ⟨Nat.le_of_ble_eq_true rfl, Nat.le_of_ble_eq_true rfl⟩⟩) rfl rfl (zk_rs (Nat.le_of_ble_eq_true rfl)) dX0_first_25 ⟨by first | exact Nat.le_of_ble_eq_true rfl | omega | (dsimp only; omega), by first | exact Nat.le_of_ble_eq_true rfl | omega | (dsimp only; omega)⟩)) (fun P25 h => ?_)
  refine zv_aload_n X 0 dX0_first_28 rfl ?_
  exact zv_aret X rfl (Or.inl ⟨_, rfl⟩) (by first | exact Nat.le_of_ble_eq_true rfl | omega | (dsimp only; omega)) (by first | exact Nat.le_of_ble_eq_true rfl | omega | (dsimp only; omega)) dX0_first_29 h
theorem md_X0_init : yX0_init.cls ≠ "java/lang/invoke/MethodHandle" ∧ yX0_init.cls ≠ "java/lang/invoke/VarHandle" ∧ (parseMethodDescriptor yX0_init.desc).map (fun d => d.parameters.length) = some 0 := by decide +kernel
theorem wk_X0_init (l : Launch) {D : zk_G} {g : zk_M} {b0 : Nat} {post : zk_H → Prop} {this : Nat} {P : zk_H} (hh : wp_X0_init g post this P) : Met l yX0_init (ws_ yX0_init cX0_init 1 none) ({ frames := 10, cells := 17, slots := 1192, locals := 237 } : Room) (va_Pc [.ref this] (zk_pre D g b0 P)) (va_Qv post (zk_B D b0) (zk_A b0)) 17 1192 (zk_A b0) := by
  refine zk_enter "LandFolio" "<init>" rfl rfl (plainFor_of_name (by decide)) [.ref this] (Nat.le_of_ble_eq_true rfl) ?_
  intro p e s m args below meth c X
  refine zk_at0 (L' := [(0, va_rf (some this))]) (rfl) ?_
  have h := hh
  unfold wp_X0_init at h
  refine zv_aload_n X 0 dX0_init_0 rfl ?_
  refine zv_objInit X q145 dX0_init_1 (by decide) (by decide) (by decide) ?_
  refine zv_aload_n X 0 dX0_init_4 rfl ?_
  refine zv_cq ((zr_S X (As := []) (rest := [va_rf (some this)]) (wk_X0_first l h) (va_cwS 0 X.hts (lw_S q148 q149 q102 q150) rfl rfl rfl md_X0_first ⟨Nat.le_of_ble_eq_true rfl, Nat.le_of_ble_eq_true rfl⟩) rfl rfl (zk_rs (Nat.le_of_ble_eq_true rfl)) dX0_init_5 ⟨by first | exact Nat.le_of_ble_eq_true rfl | omega | (dsimp only; omega), by first | exact Nat.le_of_ble_eq_true rfl | omega | (dsimp only; omega)⟩)) (fun v5 P5 h => ?_)
  refine zv_put_r X fp_q402 (zk_tyO _) (fun z => by cases z) dX0_init_8 h (fun P8 h => ?_)
  refine zv_aload_n X 0 dX0_init_11 rfl ?_
  refine zv_new X zk_nc13 q384 (by first | exact Nat.le_of_ble_eq_true rfl | omega | (dsimp only; omega)) (by first | exact Nat.le_of_ble_eq_true rfl | omega | (dsimp only; omega)) dX0_init_12 h (fun v12 P12 h => ?_)
  refine zv_dup X dX0_init_15 (zk_rc _) ?_
  refine zv_cv ((zr_I X (As := []) (rest := [va_rf (some v12), va_rf (some this)]) (wk_J6_init l h) (cwI 0 X.hts (lw_meth q388) rfl rfl rfl (X.w q113) (X.w q386) (X.w q387) rfl md_J6_init ⟨Nat.le_of_ble_eq_true rfl, Nat.le_of_ble_eq_true rfl⟩) rfl rfl (zk_rs (Nat.le_of_ble_eq_true rfl)) dX0_init_16 ⟨by first | exact Nat.le_of_ble_eq_true rfl | omega | (dsimp only; omega), by first | exact Nat.le_of_ble_eq_true rfl | omega | (dsimp only; omega)⟩)) (fun P16 h => ?_)
  refine zv_put_r X fp_q403 (zk_tyO _) (fun _ => rfl) dX0_init_19 h (fun P19 h => ?_)
  refine zv_aload_n X 0 dX0_init_22 rfl ?_
  refine zv_iconst X (v := 2) dX0_init_23 rfl ?_
  refine zv_newq X (C := "LandFolio$Folio") (by decide) (by decide) q151 (by decide) (by first | exact Nat.le_of_ble_eq_true rfl | omega | (dsimp only; omega)) (by first | exact Nat.le_of_ble_eq_true rfl | omega | (dsimp only; omega)) dX0_init_24 h (fun v24 P24 h => ?_)
  refine zv_put_r X fp_q404 (zk_tyA _) (fun _ => rfl) dX0_init_27 h (fun P27 h => ?_)
  refine zv_aload_n X 0 dX0_init_30 rfl ?_
  refine zv_sipush X (v := 800) dX0_init_31 rfl ?_
  refine zv_newa X (ty := .byte) rfl (by decide) (fun _ h => h) (fun _ => rfl) q352 (by decide) (by first | exact Nat.le_of_ble_eq_true rfl | omega | (dsimp only; omega)) (by first | exact Nat.le_of_ble_eq_true rfl | omega | (dsimp only; omega)) dX0_init_34 h (fun v34 P34 h => ?_)
  refine zv_put_r X fp_q406 (zk_tyA _) (fun _ => rfl) dX0_init_36 h (fun P36 h => ?_)
  refine zv_aload_n X 0 dX0_init_39 rfl ?_
  refine zv_bipush X (v := -2) dX0_init_40 rfl ?_
  refine zv_put_i X fp_q409 (fun z => by cases z) dX0_init_42 h (fun P42 h => ?_)
  refine zv_aload_n X 0 dX0_init_45 rfl ?_
  refine zv_bipush X (v := 40) dX0_init_46 rfl ?_
  refine zv_newa X (ty := .int) rfl (by decide) (fun _ h => h) (fun _ => rfl) q353 (by decide) (by first | exact Nat.le_of_ble_eq_true rfl | omega | (dsimp only; omega)) (by first | exact Nat.le_of_ble_eq_true rfl | omega | (dsimp only; omega)) dX0_init_48 h (fun v48 P48 h => ?_)
  refine zv_put_r X fp_q410 (zk_tyA _) (fun _ => rfl) dX0_init_50 h (fun P50 h => ?_)
  exact zv_vret X rfl (by first | exact Nat.le_of_ble_eq_true rfl | omega | (dsimp only; omega)) (by first | exact Nat.le_of_ble_eq_true rfl | omega | (dsimp only; omega)) dX0_init_53 h
theorem md_X0_undo : yX0_undo.cls ≠ "java/lang/invoke/MethodHandle" ∧ yX0_undo.cls ≠ "java/lang/invoke/VarHandle" ∧ (parseMethodDescriptor yX0_undo.desc).map (fun d => d.parameters.length) = some 0 := by decide +kernel
theorem wk_X0_undo (l : Launch) {D : zk_G} {g : zk_M} {b0 : Nat} {post : Int32 → zk_H → Prop} {this : Nat} {P : zk_H} (hh : wp_X0_undo post this P) : Met l yX0_undo (ws_ yX0_undo cX0_undo 1 (some Jvm.ClassFile.FieldType.int)) ({ frames := 3, cells := 0, slots := 0, locals := 65 } : Room) (va_Pc [.ref this] (zk_pre D g b0 P)) (va_Qi post (zk_B D b0) (zk_A b0)) 0 0 (zk_A b0) := by
  refine zk_enter "LandFolio" "undo" rfl rfl (plainFor_of_name (by decide)) [.ref this] (Nat.le_of_ble_eq_true rfl) ?_
  intro p e s m args below meth c X
  refine zk_at0 (L' := [(0, va_rf (some this))]) (rfl) ?_
  have h := hh
  unfold wp_X0_undo at h
  refine zv_aload_n X 0 dX0_undo_0 rfl ?_
  refine zv_getf_r X fo_q403 dX0_undo_1 h (fun v1 h => ?_)
  refine zv_ciR ((zr_Vl X (As := []) (rest := []) h (fun a h => wk_J6_isEmpty l h) (zk_l1 ⟨_, rfl, cwV 0 X.hts (lw_V q430 q431 q432 q113 q433) rfl rfl rfl ⟨rfl, md_J6_isEmpty⟩ ⟨Nat.le_of_ble_eq_true rfl, Nat.le_of_ble_eq_true rfl⟩⟩) rfl rfl (zk_rs (Nat.le_of_ble_eq_true rfl)) dX0_undo_4 ⟨by first | exact Nat.le_of_ble_eq_true rfl | omega | (dsimp only; omega), by first | exact Nat.le_of_ble_eq_true rfl | omega | (dsimp only; omega)⟩)) (fun v4 h => ?_)
  refine zv_if_eq X (tgt := 12) dX0_undo_7 (by decide) h (fun h => ?_) (fun h => ?_)
  · refine zv_aload_n X 0 dX0_undo_12 rfl ?_
    refine zv_aload_n X 0 dX0_undo_13 rfl ?_
    refine zv_getf_r X fo_q403 dX0_undo_14 h (fun v14 h => ?_)
    refine zv_cq ((zr_Vl X (As := []) (rest := [va_rf (some this)]) h (fun a h => wk_J6_removeLast l h) (zk_l1 ⟨_, rfl, cwV 0 X.hts (lw_V q434 q435 q436 q113 q437) rfl rfl rfl ⟨rfl, md_J6_removeLast⟩ ⟨Nat.le_of_ble_eq_true rfl, Nat.le_of_ble_eq_true rfl⟩⟩) rfl rfl (zk_rs (Nat.le_of_ble_eq_true rfl)) dX0_undo_17 ⟨by first | exact Nat.le_of_ble_eq_true rfl | omega | (dsimp only; omega), by first | exact Nat.le_of_ble_eq_true rfl | omega | (dsimp only; omega)⟩)) (fun v17 P17 h => ?_)
    refine zv_cast X zk_cs0 q151 dX0_undo_20 h (fun h => ?_)
    refine zv_put_r X fp_q402 (zk_tyO _) (fun z => by cases z) dX0_undo_23 h (fun P23 h => ?_)
    refine zv_aload_n X 0 dX0_undo_26 rfl ?_
    refine zv_getf_r X fo_q403 dX0_undo_27 h (fun v27 h => ?_)
    refine zv_ciR ((zr_Vl X (As := []) (rest := []) h (fun a h => wk_J6_size l h) (zk_l1 ⟨_, rfl, cwV 0 X.hts (lw_V q448 q449 q450 q113 q451) rfl rfl rfl ⟨rfl, md_J6_size⟩ ⟨Nat.le_of_ble_eq_true rfl, Nat.le_of_ble_eq_true rfl⟩⟩) rfl rfl (zk_rs (Nat.le_of_ble_eq_true rfl)) dX0_undo_30 ⟨by first | exact Nat.le_of_ble_eq_true rfl | omega | (dsimp only; omega), by first | exact Nat.le_of_ble_eq_true rfl | omega | (dsimp only; omega)⟩)) (fun v30 h => ?_)
    exact zv_iret X rfl (by first | exact Nat.le_of_ble_eq_true rfl | omega | (dsimp only; omega)) (by first | exact Nat.le_of_ble_eq_true rfl | omega | (dsimp only; omega)) dX0_undo_33 h
  · refine zv_iconst X (v := -1) dX0_undo_10 rfl ?_
    exact zv_iret X rfl (by first | exact Nat.le_of_ble_eq_true rfl | omega | (dsimp only; omega)) (by first | exact Nat.le_of_ble_eq_true rfl | omega | (dsimp only; omega)) dX0_undo_11 h
theorem md_X0_isIn : yX0_isIn.cls ≠ "java/lang/invoke/MethodHandle" ∧ yX0_isIn.cls ≠ "java/lang/invoke/VarHandle" ∧ (parseMethodDescriptor yX0_isIn.desc).map (fun d => d.parameters.length) = some 3 := by decide +kernel
theorem wk_X0_isIn (l : Launch) {D : zk_G} {g : zk_M} {b0 : Nat} {post : Int32 → Prop} {x0 : Int32} {x1 : Int32} {x2 : Int32} {P : zk_H} (hh : wp_X0_isIn post x0 x1 x2) : Met l yX0_isIn (ws_ yX0_isIn cX0_isIn 3 (some Jvm.ClassFile.FieldType.boolean)) ({ frames := 0, cells := 0, slots := 0, locals := 0 } : Room) (va_Pc [.int (x0), .int (x1), .int (x2)] (zk_pre D g b0 P)) (va_Qi (fun r u => post r ∧ u = P) (zk_B D b0) (zk_A b0)) 0 0 (zk_A b0) := by
  refine zk_enter "LandFolio" "isIn" rfl rfl (plainFor_of_name (by decide)) [.int (x0), .int (x1), .int (x2)] (Nat.le_of_ble_eq_true rfl) ?_
  intro p e s m args below meth c X
  refine zk_at0 (L' := [(0, .int (x0)), (1, .int (x1)), (2, .int (x2))]) (rfl) ?_
  have h := hh
  unfold wp_X0_isIn at h
  refine zv_iload_n X 0 dX0_isIn_0 rfl ?_
  refine zv_iload_n X 1 dX0_isIn_1 rfl ?_
  refine zv_icmp_lt X (tgt := 14) dX0_isIn_2 (by decide) h (fun h => ?_) (fun h => ?_)
  · refine zv_iconst X (v := 0) dX0_isIn_14 rfl ?_
    exact zv_zret X (ty := .boolean) rfl (by first | exact Nat.le_of_ble_eq_true rfl | omega | (dsimp only; omega)) (by first | exact Nat.le_of_ble_eq_true rfl | omega | (dsimp only; omega)) dX0_isIn_15 ⟨rfl, ⟨h, rfl⟩⟩
  · refine zv_iload_n X 0 dX0_isIn_5 rfl ?_
    refine zv_iload_n X 2 dX0_isIn_6 rfl ?_
    refine zv_icmp_gt X (tgt := 14) dX0_isIn_7 (by decide) h (fun h => ?_) (fun h => ?_)
    · refine zv_iconst X (v := 0) dX0_isIn_14 rfl ?_
      exact zv_zret X (ty := .boolean) rfl (by first | exact Nat.le_of_ble_eq_true rfl | omega | (dsimp only; omega)) (by first | exact Nat.le_of_ble_eq_true rfl | omega | (dsimp only; omega)) dX0_isIn_15 ⟨rfl, ⟨h, rfl⟩⟩
    · refine zv_iconst X (v := 1) dX0_isIn_10 rfl ?_
      refine zv_goto X (tgt := 15) dX0_isIn_11 (by decide) ?_
      exact zv_zret X (ty := .boolean) rfl (by first | exact Nat.le_of_ble_eq_true rfl | omega | (dsimp only; omega)) (by first | exact Nat.le_of_ble_eq_true rfl | omega | (dsimp only; omega)) dX0_isIn_15 ⟨rfl, ⟨h, rfl⟩⟩
theorem md_X0_isSlot : yX0_isSlot.cls ≠ "java/lang/invoke/MethodHandle" ∧ yX0_isSlot.cls ≠ "java/lang/invoke/VarHandle" ∧ (parseMethodDescriptor yX0_isSlot.desc).map (fun d => d.parameters.length) = some 1 := by decide +kernel
theorem wk_X0_isSlot (l : Launch) {D : zk_G} {g : zk_M} {b0 : Nat} {post : Int32 → Prop} {x0 : Int32} {P : zk_H} (hh : wp_X0_isSlot post x0) : Met l yX0_isSlot (ws_ yX0_isSlot cX0_isSlot 1 (some Jvm.ClassFile.FieldType.boolean)) ({ frames := 1, cells := 0, slots := 0, locals := 22 } : Room) (va_Pc [.int (x0)] (zk_pre D g b0 P)) (va_Qi (fun r u => post r ∧ u = P) (zk_B D b0) (zk_A b0)) 0 0 (zk_A b0) := by
  refine zk_enter "LandFolio" "isSlot" rfl rfl (plainFor_of_name (by decide)) [.int (x0)] (Nat.le_of_ble_eq_true rfl) ?_
  intro p e s m args below meth c X
  refine zk_at0 (L' := [(0, .int (x0))]) (rfl) ?_
  have h := hh
  unfold wp_X0_isSlot at h
  refine zv_iload_n X 0 dX0_isSlot_0 rfl ?_
  refine zv_iconst X (v := 0) dX0_isSlot_1 rfl ?_
  refine zv_iconst X (v := 1) dX0_isSlot_2 rfl ?_
  refine zv_ciR ((zr_S X (As := [.int (x0), .int (0), .int (1)]) (rest := []) (wk_X0_isIn l h) (va_cwS 3 X.hts (lw_S q462 q463 q102 q464) rfl rfl rfl md_X0_isIn ⟨Nat.le_of_ble_eq_true rfl, Nat.le_of_ble_eq_true rfl⟩) rfl rfl (zk_rs (Nat.le_of_ble_eq_true rfl)) dX0_isSlot_3 ⟨by first | exact Nat.le_of_ble_eq_true rfl | omega | (dsimp only; omega), by first | exact Nat.le_of_ble_eq_true rfl | omega | (dsimp only; omega)⟩)) (fun v3 h => ?_)
  obtain ⟨hb, h⟩ := h
  exact zv_zret X (ty := .boolean) rfl (by first | exact Nat.le_of_ble_eq_true rfl | omega | (dsimp only; omega)) (by first | exact Nat.le_of_ble_eq_true rfl | omega | (dsimp only; omega)) dX0_isSlot_6 ⟨hb, ⟨h, rfl⟩⟩
theorem md_X1_burden : yX1_burden.cls ≠ "java/lang/invoke/MethodHandle" ∧ yX1_burden.cls ≠ "java/lang/invoke/VarHandle" ∧ (parseMethodDescriptor yX1_burden.desc).map (fun d => d.parameters.length) = some 1 := by decide +kernel
theorem wk_X1_burden (l : Launch) {D : zk_G} {g : zk_M} {b0 : Nat} {post : Option Nat → Prop} {this : Nat} {x1 : Int32} {P : zk_H} (hh : wp_X1_burden post this x1 P) : Met l yX1_burden (ws_ yX1_burden cX1_burden 2 (some (Jvm.ClassFile.FieldType.object "LandFolio$Burden"))) ({ frames := 3, cells := 0, slots := 0, locals := 64 } : Room) (va_Pc [.ref this, .int (x1)] (zk_pre D g b0 P)) (va_Qq (fun r u => post r ∧ u = P) (zk_B D b0) (zk_A b0)) 0 0 (zk_A b0) := by
  refine zk_enter "LandFolio$Folio" "burden" rfl rfl (plainFor_of_name (by decide)) [.ref this, .int (x1)] (Nat.le_of_ble_eq_true rfl) ?_
  intro p e s m args below meth c X
  refine zk_at0 (L' := [(0, va_rf (some this)), (1, .int (x1))]) (rfl) ?_
  have h := hh
  unfold wp_X1_burden at h
  refine zv_aload_n X 0 dX1_burden_0 rfl ?_
  refine zv_getf_r X fo_q199 dX1_burden_1 h (fun v1 h => ?_)
  refine zv_iload_n X 1 dX1_burden_4 rfl ?_
  refine zv_cqR ((zr_Vl X (As := [.int (x1)]) (rest := []) h (fun a h => wk_J2_get l h) (zk_l1 ⟨_, rfl, cwV 1 X.hts (lw_V q505 q506 q507 q106 q508) rfl rfl rfl ⟨rfl, md_J2_get⟩ ⟨Nat.le_of_ble_eq_true rfl, Nat.le_of_ble_eq_true rfl⟩⟩) rfl rfl (zk_rs (Nat.le_of_ble_eq_true rfl)) dX1_burden_5 ⟨by first | exact Nat.le_of_ble_eq_true rfl | omega | (dsimp only; omega), by first | exact Nat.le_of_ble_eq_true rfl | omega | (dsimp only; omega)⟩)) (fun v5 h => ?_)
  refine zv_cast X zk_cs1 q529 dX1_burden_8 h (fun h => ?_)
  exact zv_aret X rfl (Or.inl ⟨_, rfl⟩) (by first | exact Nat.le_of_ble_eq_true rfl | omega | (dsimp only; omega)) (by first | exact Nat.le_of_ble_eq_true rfl | omega | (dsimp only; omega)) dX1_burden_11 ⟨h, rfl⟩
theorem md_X7_number : yX7_number.cls ≠ "java/lang/invoke/MethodHandle" ∧ yX7_number.cls ≠ "java/lang/invoke/VarHandle" ∧ (parseMethodDescriptor yX7_number.desc).map (fun d => d.parameters.length) = some 0 := by decide +kernel
theorem wk_X7_number (l : Launch) {D : zk_G} {g : zk_M} {b0 : Nat} {post : Int32 → Prop} {this : Nat} {P : zk_H} (hh : wp_X7_number post this P) : Met l yX7_number (ws_ yX7_number cX7_number 1 (some Jvm.ClassFile.FieldType.int)) ({ frames := 0, cells := 0, slots := 0, locals := 0 } : Room) (va_Pc [.ref this] (zk_pre D g b0 P)) (va_Qi (fun r u => post r ∧ u = P) (zk_B D b0) (zk_A b0)) 0 0 (zk_A b0) := by
  refine zk_enter "LandFolio$Burden" "number" rfl rfl (plainFor_of_name (by decide)) [.ref this] (Nat.le_of_ble_eq_true rfl) ?_
  intro p e s m args below meth c X
  refine zk_at0 (L' := [(0, va_rf (some this))]) (rfl) ?_
  have h := hh
  unfold wp_X7_number at h
  refine zv_aload_n X 0 dX7_number_0 rfl ?_
  refine zv_getf_i X fo_q592 dX7_number_1 h (fun v1 h => ?_)
  exact zv_iret X rfl (by first | exact Nat.le_of_ble_eq_true rfl | omega | (dsimp only; omega)) (by first | exact Nat.le_of_ble_eq_true rfl | omega | (dsimp only; omega)) dX7_number_4 ⟨h, rfl⟩
theorem md_X7_came : yX7_came.cls ≠ "java/lang/invoke/MethodHandle" ∧ yX7_came.cls ≠ "java/lang/invoke/VarHandle" ∧ (parseMethodDescriptor yX7_came.desc).map (fun d => d.parameters.length) = some 0 := by decide +kernel
theorem wk_X7_came (l : Launch) {D : zk_G} {g : zk_M} {b0 : Nat} {post : Int32 → Prop} {this : Nat} {P : zk_H} (hh : wp_X7_came post this P) : Met l yX7_came (ws_ yX7_came cX7_came 1 (some Jvm.ClassFile.FieldType.int)) ({ frames := 0, cells := 0, slots := 0, locals := 0 } : Room) (va_Pc [.ref this] (zk_pre D g b0 P)) (va_Qi (fun r u => post r ∧ u = P) (zk_B D b0) (zk_A b0)) 0 0 (zk_A b0) := by
  refine zk_enter "LandFolio$Burden" "came" rfl rfl (plainFor_of_name (by decide)) [.ref this] (Nat.le_of_ble_eq_true rfl) ?_
  intro p e s m args below meth c X
  refine zk_at0 (L' := [(0, va_rf (some this))]) (rfl) ?_
  have h := hh
  unfold wp_X7_came at h
  refine zv_aload_n X 0 dX7_came_0 rfl ?_
  refine zv_getf_i X fo_q593 dX7_came_1 h (fun v1 h => ?_)
  exact zv_iret X rfl (by first | exact Nat.le_of_ble_eq_true rfl | omega | (dsimp only; omega)) (by first | exact Nat.le_of_ble_eq_true rfl | omega | (dsimp only; omega)) dX7_came_4 ⟨h, rfl⟩
theorem md_X7_init : yX7_init.cls ≠ "java/lang/invoke/MethodHandle" ∧ yX7_init.cls ≠ "java/lang/invoke/VarHandle" ∧ (parseMethodDescriptor yX7_init.desc).map (fun d => d.parameters.length) = some 2 := by decide +kernel
theorem wk_X7_init (l : Launch) {D : zk_G} {g : zk_M} {b0 : Nat} {post : zk_H → Prop} {this : Nat} {x1 : Int32} {x2 : Int32} {P : zk_H} (hh : wp_X7_init post this x1 x2 P) : Met l yX7_init (ws_ yX7_init cX7_init 3 none) ({ frames := 3, cells := 2, slots := 4, locals := 61 } : Room) (va_Pc [.ref this, .int (x1), .int (x2)] (zk_pre D g b0 P)) (va_Qv post (zk_B D b0) (zk_A b0)) 2 4 (zk_A b0) := by
  refine zk_enter "LandFolio$Burden" "<init>" rfl rfl (plainFor_of_name (by decide)) [.ref this, .int (x1), .int (x2)] (Nat.le_of_ble_eq_true rfl) ?_
  intro p e s m args below meth c X
  refine zk_at0 (L' := [(0, va_rf (some this)), (1, .int (x1)), (2, .int (x2))]) (rfl) ?_
  have h := hh
  unfold wp_X7_init at h
  refine zv_aload_n X 0 dX7_init_0 rfl ?_
  refine zv_objInit X q562 dX7_init_1 (by decide) (by decide) (by decide) ?_
  refine zv_aload_n X 0 dX7_init_4 rfl ?_
  refine zv_new X zk_nc16 q563 (by first | exact Nat.le_of_ble_eq_true rfl | omega | (dsimp only; omega)) (by first | exact Nat.le_of_ble_eq_true rfl | omega | (dsimp only; omega)) dX7_init_5 h (fun v5 P5 h => ?_)
  refine zv_dup X dX7_init_8 (zk_rc _) ?_
  refine zv_cv ((zr_I X (As := []) (rest := [va_rf (some v5), va_rf (some this)]) (wk_J16_init l h) (cwI 0 X.hts (lw_meth q567) rfl rfl rfl (X.w q126) (X.w q565) (X.w q566) rfl md_J16_init ⟨Nat.le_of_ble_eq_true rfl, Nat.le_of_ble_eq_true rfl⟩) rfl rfl (zk_rs (Nat.le_of_ble_eq_true rfl)) dX7_init_9 ⟨by first | exact Nat.le_of_ble_eq_true rfl | omega | (dsimp only; omega), by first | exact Nat.le_of_ble_eq_true rfl | omega | (dsimp only; omega)⟩)) (fun P9 h => ?_)
  refine zv_put_r X fp_q599 (zk_tyO _) (fun _ => rfl) dX7_init_12 h (fun P12 h => ?_)
  refine zv_aload_n X 0 dX7_init_15 rfl ?_
  refine zv_iload_n X 1 dX7_init_16 rfl ?_
  refine zv_put_i X fp_q592 (fun _ => rfl) dX7_init_17 h (fun P17 h => ?_)
  refine zv_aload_n X 0 dX7_init_20 rfl ?_
  refine zv_iload_n X 2 dX7_init_21 rfl ?_
  refine zv_put_i X fp_q593 (fun _ => rfl) dX7_init_22 h (fun P22 h => ?_)
  refine zv_aload_n X 0 dX7_init_25 rfl ?_
  refine zv_iload_n X 1 dX7_init_26 rfl ?_
  refine zv_put_i X fp_q594 (fun z => by cases z) dX7_init_27 h (fun P27 h => ?_)
  exact zv_vret X rfl (by first | exact Nat.le_of_ble_eq_true rfl | omega | (dsimp only; omega)) (by first | exact Nat.le_of_ble_eq_true rfl | omega | (dsimp only; omega)) dX7_init_30 h
theorem md_X8_init : yX8_init.cls ≠ "java/lang/invoke/MethodHandle" ∧ yX8_init.cls ≠ "java/lang/invoke/VarHandle" ∧ (parseMethodDescriptor yX8_init.desc).map (fun d => d.parameters.length) = some 4 := by decide +kernel
theorem wk_X8_init (l : Launch) {D : zk_G} {g : zk_M} {b0 : Nat} {post : zk_H → Prop} {this : Nat} {x1 : Int32} {x2 : Int32} {x3 : Int32} {x4 : Int32} {P : zk_H} (hh : wp_X8_init post this x1 x2 x3 x4 P) : Met l yX8_init (ws_ yX8_init cX8_init 5 none) ({ frames := 4, cells := 2, slots := 4, locals := 83 } : Room) (va_Pc [.ref this, .int (x1), .int (x2), .int (x3), .int (x4)] (zk_pre D g b0 P)) (va_Qv post (zk_B D b0) (zk_A b0)) 2 4 (zk_A b0) := by
  refine zk_enter "LandFolio$Debt" "<init>" rfl rfl (plainFor_of_name (by decide)) [.ref this, .int (x1), .int (x2), .int (x3), .int (x4)] (Nat.le_of_ble_eq_true rfl) ?_
  intro p e s m args below meth c X
  refine zk_at0 (L' := [(0, va_rf (some this)), (1, .int (x1)), (2, .int (x2)), (3, .int (x3)), (4, .int (x4))]) (rfl) ?_
  have h := hh
  unfold wp_X8_init at h
  refine zv_aload_n X 0 dX8_init_0 rfl ?_
  refine zv_iload_n X 1 dX8_init_1 rfl ?_
  refine zv_iload_n X 2 dX8_init_2 rfl ?_
  refine zv_cv ((zr_I X (As := [.int (x1), .int (x2)]) (rest := []) (wk_X7_init l h) (cwI 2 X.hts (lw_meth q561) rfl rfl rfl (X.w q127) (X.w q559) (X.w q560) rfl md_X7_init ⟨Nat.le_of_ble_eq_true rfl, Nat.le_of_ble_eq_true rfl⟩) rfl rfl (zk_rs (Nat.le_of_ble_eq_true rfl)) dX8_init_3 ⟨by first | exact Nat.le_of_ble_eq_true rfl | omega | (dsimp only; omega), by first | exact Nat.le_of_ble_eq_true rfl | omega | (dsimp only; omega)⟩)) (fun P3 h => ?_)
  refine zv_aload_n X 0 dX8_init_6 rfl ?_
  refine zv_iload_n X 3 dX8_init_7 rfl ?_
  refine zv_put_i X fp_q587 (fun _ => rfl) dX8_init_8 h (fun P8 h => ?_)
  refine zv_aload_n X 0 dX8_init_11 rfl ?_
  refine zv_iload X 4 dX8_init_12 rfl ?_
  refine zv_put_i X fp_q589 (fun z => by cases z) dX8_init_14 h (fun P14 h => ?_)
  exact zv_vret X rfl (by first | exact Nat.le_of_ble_eq_true rfl | omega | (dsimp only; omega)) (by first | exact Nat.le_of_ble_eq_true rfl | omega | (dsimp only; omega)) dX8_init_17 h
theorem md_X8_anew : yX8_anew.cls ≠ "java/lang/invoke/MethodHandle" ∧ yX8_anew.cls ≠ "java/lang/invoke/VarHandle" ∧ (parseMethodDescriptor yX8_anew.desc).map (fun d => d.parameters.length) = some 0 := by decide +kernel
theorem wk_X8_anew (l : Launch) {D : zk_G} {g : zk_M} {b0 : Nat} {post : Option Nat → zk_H → Prop} {this : Nat} {P : zk_H} (hh : wp_X8_anew post this P) : Met l yX8_anew (ws_ yX8_anew cX8_anew 1 (some (Jvm.ClassFile.FieldType.object "LandFolio$Burden"))) ({ frames := 5, cells := 3, slots := 10, locals := 107 } : Room) (va_Pc [.ref this] (zk_pre D g b0 P)) (va_Qq post (zk_B D b0) (zk_A b0)) 3 10 (zk_A b0) := by
  refine zk_enter "LandFolio$Debt" "anew" rfl rfl (plainFor_of_name (by decide)) [.ref this] (Nat.le_of_ble_eq_true rfl) ?_
  intro p e s m args below meth c X
  refine zk_at0 (L' := [(0, va_rf (some this))]) (rfl) ?_
  have h := hh
  unfold wp_X8_anew at h
  refine zv_new X zk_nc7 q542 (by first | exact Nat.le_of_ble_eq_true rfl | omega | (dsimp only; omega)) (by first | exact Nat.le_of_ble_eq_true rfl | omega | (dsimp only; omega)) dX8_anew_0 h (fun v0 P0 h => ?_)
  refine zv_dup X dX8_anew_3 (zk_rc _) ?_
  refine zv_aload_n X 0 dX8_anew_4 rfl ?_
  refine zv_ciR ((zr_Ul X (As := []) (rest := [va_rf (some v0), va_rf (some v0)]) h (fun a h => wk_X7_number l h) (zk_l1 ⟨_, rfl, _, va_cwU 0 X.hts (zk_wsU q544 q545 q547 q548 q127 q549) rfl rfl rfl rfl md_X7_number ⟨Nat.le_of_ble_eq_true rfl, Nat.le_of_ble_eq_true rfl⟩⟩) rfl rfl (zk_rs (Nat.le_of_ble_eq_true rfl)) dX8_anew_5 ⟨by first | exact Nat.le_of_ble_eq_true rfl | omega | (dsimp only; omega), by first | exact Nat.le_of_ble_eq_true rfl | omega | (dsimp only; omega)⟩)) (fun v5 h => ?_)
  refine zv_aload_n X 0 dX8_anew_8 rfl ?_
  refine zv_ciR ((zr_Ul X (As := []) (rest := [.int (v5), va_rf (some v0), va_rf (some v0)]) h (fun a h => wk_X7_came l h) (zk_l1 ⟨_, rfl, _, va_cwU 0 X.hts (zk_wsU q550 q551 q553 q554 q127 q555) rfl rfl rfl rfl md_X7_came ⟨Nat.le_of_ble_eq_true rfl, Nat.le_of_ble_eq_true rfl⟩⟩) rfl rfl (zk_rs (Nat.le_of_ble_eq_true rfl)) dX8_anew_9 ⟨by first | exact Nat.le_of_ble_eq_true rfl | omega | (dsimp only; omega), by first | exact Nat.le_of_ble_eq_true rfl | omega | (dsimp only; omega)⟩)) (fun v9 h => ?_)
  refine zv_aload_n X 0 dX8_anew_12 rfl ?_
  refine zv_getf_i X fo_q587 dX8_anew_13 h (fun v13 h => ?_)
  refine zv_aload_n X 0 dX8_anew_16 rfl ?_
  refine zv_getf_i X fo_q589 dX8_anew_17 h (fun v17 h => ?_)
  refine zv_cv ((zr_I X (As := [.int (v5), .int (v9), .int (v13), .int (v17)]) (rest := [va_rf (some v0)]) (wk_X8_init l h) (cwI 4 X.hts (lw_meth q558) rfl rfl rfl (X.w q128) (X.w q556) (X.w q557) rfl md_X8_init ⟨Nat.le_of_ble_eq_true rfl, Nat.le_of_ble_eq_true rfl⟩) rfl rfl (zk_rs (Nat.le_of_ble_eq_true rfl)) dX8_anew_20 ⟨by first | exact Nat.le_of_ble_eq_true rfl | omega | (dsimp only; omega), by first | exact Nat.le_of_ble_eq_true rfl | omega | (dsimp only; omega)⟩)) (fun P20 h => ?_)
  exact zv_aret X rfl (Or.inl ⟨_, rfl⟩) (by first | exact Nat.le_of_ble_eq_true rfl | omega | (dsimp only; omega)) (by first | exact Nat.le_of_ble_eq_true rfl | omega | (dsimp only; omega)) dX8_anew_23 h
theorem md_X9_init : yX9_init.cls ≠ "java/lang/invoke/MethodHandle" ∧ yX9_init.cls ≠ "java/lang/invoke/VarHandle" ∧ (parseMethodDescriptor yX9_init.desc).map (fun d => d.parameters.length) = some 4 := by decide +kernel
theorem wk_X9_init (l : Launch) {D : zk_G} {g : zk_M} {b0 : Nat} {post : zk_H → Prop} {this : Nat} {x1 : Int32} {x2 : Int32} {x3 : Int32} {x4 : Int32} {P : zk_H} (hh : wp_X9_init post this x1 x2 x3 x4 P) : Met l yX9_init (ws_ yX9_init cX9_init 5 none) ({ frames := 4, cells := 2, slots := 4, locals := 83 } : Room) (va_Pc [.ref this, .int (x1), .int (x2), .int (x3), .int (x4)] (zk_pre D g b0 P)) (va_Qv post (zk_B D b0) (zk_A b0)) 2 4 (zk_A b0) := by
  refine zk_enter "LandFolio$Path" "<init>" rfl rfl (plainFor_of_name (by decide)) [.ref this, .int (x1), .int (x2), .int (x3), .int (x4)] (Nat.le_of_ble_eq_true rfl) ?_
  intro p e s m args below meth c X
  refine zk_at0 (L' := [(0, va_rf (some this)), (1, .int (x1)), (2, .int (x2)), (3, .int (x3)), (4, .int (x4))]) (rfl) ?_
  have h := hh
  unfold wp_X9_init at h
  refine zv_aload_n X 0 dX9_init_0 rfl ?_
  refine zv_iload_n X 1 dX9_init_1 rfl ?_
  refine zv_iload_n X 2 dX9_init_2 rfl ?_
  refine zv_cv ((zr_I X (As := [.int (x1), .int (x2)]) (rest := []) (wk_X7_init l h) (cwI 2 X.hts (lw_meth q561) rfl rfl rfl (X.w q127) (X.w q629) (X.w q560) rfl md_X7_init ⟨Nat.le_of_ble_eq_true rfl, Nat.le_of_ble_eq_true rfl⟩) rfl rfl (zk_rs (Nat.le_of_ble_eq_true rfl)) dX9_init_3 ⟨by first | exact Nat.le_of_ble_eq_true rfl | omega | (dsimp only; omega), by first | exact Nat.le_of_ble_eq_true rfl | omega | (dsimp only; omega)⟩)) (fun P3 h => ?_)
  refine zv_aload_n X 0 dX9_init_6 rfl ?_
  refine zv_iload_n X 3 dX9_init_7 rfl ?_
  refine zv_put_i X fp_q630 (fun _ => rfl) dX9_init_8 h (fun P8 h => ?_)
  refine zv_aload_n X 0 dX9_init_11 rfl ?_
  refine zv_iload X 4 dX9_init_12 rfl ?_
  refine zv_put_i X fp_q633 (fun _ => rfl) dX9_init_14 h (fun P14 h => ?_)
  exact zv_vret X rfl (by first | exact Nat.le_of_ble_eq_true rfl | omega | (dsimp only; omega)) (by first | exact Nat.le_of_ble_eq_true rfl | omega | (dsimp only; omega)) dX9_init_17 h
theorem md_X9_anew : yX9_anew.cls ≠ "java/lang/invoke/MethodHandle" ∧ yX9_anew.cls ≠ "java/lang/invoke/VarHandle" ∧ (parseMethodDescriptor yX9_anew.desc).map (fun d => d.parameters.length) = some 0 := by decide +kernel
theorem wk_X9_anew (l : Launch) {D : zk_G} {g : zk_M} {b0 : Nat} {post : Option Nat → zk_H → Prop} {this : Nat} {P : zk_H} (hh : wp_X9_anew post this P) : Met l yX9_anew (ws_ yX9_anew cX9_anew 1 (some (Jvm.ClassFile.FieldType.object "LandFolio$Burden"))) ({ frames := 5, cells := 3, slots := 10, locals := 107 } : Room) (va_Pc [.ref this] (zk_pre D g b0 P)) (va_Qq post (zk_B D b0) (zk_A b0)) 3 10 (zk_A b0) := by
  refine zk_enter "LandFolio$Path" "anew" rfl rfl (plainFor_of_name (by decide)) [.ref this] (Nat.le_of_ble_eq_true rfl) ?_
  intro p e s m args below meth c X
  refine zk_at0 (L' := [(0, va_rf (some this))]) (rfl) ?_
  have h := hh
  unfold wp_X9_anew at h
  refine zv_new X zk_nc8 q618 (by first | exact Nat.le_of_ble_eq_true rfl | omega | (dsimp only; omega)) (by first | exact Nat.le_of_ble_eq_true rfl | omega | (dsimp only; omega)) dX9_anew_0 h (fun v0 P0 h => ?_)
  refine zv_dup X dX9_anew_3 (zk_rc _) ?_
  refine zv_aload_n X 0 dX9_anew_4 rfl ?_
  refine zv_ciR ((zr_Ul X (As := []) (rest := [va_rf (some v0), va_rf (some v0)]) h (fun a h => wk_X7_number l h) (zk_l1 ⟨_, rfl, _, va_cwU 0 X.hts (zk_wsU q620 q621 q622 q548 q127 q549) rfl rfl rfl rfl md_X7_number ⟨Nat.le_of_ble_eq_true rfl, Nat.le_of_ble_eq_true rfl⟩⟩) rfl rfl (zk_rs (Nat.le_of_ble_eq_true rfl)) dX9_anew_5 ⟨by first | exact Nat.le_of_ble_eq_true rfl | omega | (dsimp only; omega), by first | exact Nat.le_of_ble_eq_true rfl | omega | (dsimp only; omega)⟩)) (fun v5 h => ?_)
  refine zv_aload_n X 0 dX9_anew_8 rfl ?_
  refine zv_ciR ((zr_Ul X (As := []) (rest := [.int (v5), va_rf (some v0), va_rf (some v0)]) h (fun a h => wk_X7_came l h) (zk_l1 ⟨_, rfl, _, va_cwU 0 X.hts (zk_wsU q623 q624 q625 q554 q127 q555) rfl rfl rfl rfl md_X7_came ⟨Nat.le_of_ble_eq_true rfl, Nat.le_of_ble_eq_true rfl⟩⟩) rfl rfl (zk_rs (Nat.le_of_ble_eq_true rfl)) dX9_anew_9 ⟨by first | exact Nat.le_of_ble_eq_true rfl | omega | (dsimp only; omega), by first | exact Nat.le_of_ble_eq_true rfl | omega | (dsimp only; omega)⟩)) (fun v9 h => ?_)
  refine zv_aload_n X 0 dX9_anew_12 rfl ?_
  refine zv_getf_i X fo_q630 dX9_anew_13 h (fun v13 h => ?_)
  refine zv_aload_n X 0 dX9_anew_16 rfl ?_
  refine zv_getf_i X fo_q633 dX9_anew_17 h (fun v17 h => ?_)
  refine zv_cv ((zr_I X (As := [.int (v5), .int (v9), .int (v13), .int (v17)]) (rest := [va_rf (some v0)]) (wk_X9_init l h) (cwI 4 X.hts (lw_meth q628) rfl rfl rfl (X.w q129) (X.w q626) (X.w q627) rfl md_X9_init ⟨Nat.le_of_ble_eq_true rfl, Nat.le_of_ble_eq_true rfl⟩) rfl rfl (zk_rs (Nat.le_of_ble_eq_true rfl)) dX9_anew_20 ⟨by first | exact Nat.le_of_ble_eq_true rfl | omega | (dsimp only; omega), by first | exact Nat.le_of_ble_eq_true rfl | omega | (dsimp only; omega)⟩)) (fun P20 h => ?_)
  exact zv_aret X rfl (Or.inl ⟨_, rfl⟩) (by first | exact Nat.le_of_ble_eq_true rfl | omega | (dsimp only; omega)) (by first | exact Nat.le_of_ble_eq_true rfl | omega | (dsimp only; omega)) dX9_anew_23 h
theorem md_X7_copied : yX7_copied.cls ≠ "java/lang/invoke/MethodHandle" ∧ yX7_copied.cls ≠ "java/lang/invoke/VarHandle" ∧ (parseMethodDescriptor yX7_copied.desc).map (fun d => d.parameters.length) = some 0 := by decide +kernel
theorem wk_X7_copied (l : Launch) {D : zk_G} {g : zk_M} {b0 : Nat} {post : Option Nat → zk_H → Prop} {this : Nat} {P : zk_H} (hh : wp_X7_copied post this P) : Met l yX7_copied (ws_ yX7_copied cX7_copied 2 (some (Jvm.ClassFile.FieldType.object "LandFolio$Burden"))) ({ frames := 6, cells := 3, slots := 10, locals := 127 } : Room) (va_Pc [.ref this] (zk_pre D g b0 P)) (va_Qq post (zk_B D b0) (zk_A b0)) 3 10 (zk_A b0) := by
  refine zk_enter "LandFolio$Burden" "copied" rfl rfl (plainFor_of_name (by decide)) [.ref this] (Nat.le_of_ble_eq_true rfl) ?_
  intro p e s m args below meth c X
  refine zk_at0 (L' := [(0, va_rf (some this))]) (rfl) ?_
  have h := hh
  unfold wp_X7_copied at h
  refine zv_aload_n X 0 dX7_copied_0 rfl ?_
  have hk : ∀ (v1 : Option Nat) (P1 : zk_H), (zf_i P1 (some this) [7, 8] 2 (fun v7 => zp_v P1 v1 [7, 8] 2 (.int (v7)) (fun P10 => zf_r P10 v1 [7, 8] 3 (fun v14 => zf_r P10 (some this) [7, 8] 3 (fun v18 => zo P10 v14 [16] (fun b21 => wp_J16_or (fun P21 => post v1 P21) b21 v18 P10)))))) → zV p l e ({ frames := 6, cells := 3, slots := 10, locals := 127 } : Room) s m args below meth c D b0 2 (3) (10) (MQ below (va_Qq post (zk_B D b0) (zk_A b0)) args s 3 10 (zk_A b0)) P1 4 [(0, va_rf (some this))] [va_rf (v1)] := by
    intro v1 P1 h
    refine zv_astore_n X (i := 1) (L' := [(1, va_rf (v1)), (0, va_rf (some this))]) dX7_copied_4 rfl (by decide) rfl ?_
    refine zv_aload_n X 0 dX7_copied_5 rfl ?_
    refine zv_aload_n X 1 dX7_copied_6 rfl ?_
    refine zv_getf_i X fo_q594 dX7_copied_7 h (fun v7 h => ?_)
    refine zv_put_i X fp_q594 (fun z => by cases z) dX7_copied_10 h (fun P10 h => ?_)
    refine zv_aload_n X 0 dX7_copied_13 rfl ?_
    refine zv_getf_r X fo_q599 dX7_copied_14 h (fun v14 h => ?_)
    refine zv_aload_n X 1 dX7_copied_17 rfl ?_
    refine zv_getf_r X fo_q599 dX7_copied_18 h (fun v18 h => ?_)
    refine zv_cv ((zr_Vl X (As := [va_rf (v18)]) (rest := []) h (fun a h => wk_J16_or l h) (zk_l1 ⟨_, rfl, cwV 1 X.hts (lw_V q645 q646 q647 q126 q648) rfl rfl rfl ⟨rfl, md_J16_or⟩ ⟨Nat.le_of_ble_eq_true rfl, Nat.le_of_ble_eq_true rfl⟩⟩) rfl rfl (zk_rs (Nat.le_of_ble_eq_true rfl)) dX7_copied_21 ⟨by first | exact Nat.le_of_ble_eq_true rfl | omega | (dsimp only; omega), by first | exact Nat.le_of_ble_eq_true rfl | omega | (dsimp only; omega)⟩)) (fun P21 h => ?_)
    refine zv_aload_n X 0 dX7_copied_24 rfl ?_
    exact zv_aret X rfl (Or.inl ⟨_, rfl⟩) (by first | exact Nat.le_of_ble_eq_true rfl | omega | (dsimp only; omega)) (by first | exact Nat.le_of_ble_eq_true rfl | omega | (dsimp only; omega)) dX7_copied_25 h
  rcases h with h | h
  · refine zv_cq ((zr_Ul X (As := []) (rest := []) h (fun a h => wk_X8_anew l h) (zk_l1 ⟨_, rfl, _, va_cwA 0 X.hts (zk_wsU q536 q538 q539 q540 q128 q541) rfl rfl rfl (X.nw (zk_nwm q537 rfl)) ⟨by decide, by decide, md_X8_anew.2.2⟩ ⟨Nat.le_of_ble_eq_true rfl, Nat.le_of_ble_eq_true rfl⟩⟩) rfl rfl (zk_rs (Nat.le_of_ble_eq_true rfl)) dX7_copied_1 ⟨by first | exact Nat.le_of_ble_eq_true rfl | omega | (dsimp only; omega), by first | exact Nat.le_of_ble_eq_true rfl | omega | (dsimp only; omega)⟩)) (fun v1 P1 h => zv_widen (by first | exact Nat.le_of_ble_eq_true rfl | omega | (dsimp only; omega)) (by first | exact Nat.le_of_ble_eq_true rfl | omega | (dsimp only; omega)) (hk v1 P1 h))
  · refine zv_cq ((zr_Ul X (As := []) (rest := []) h (fun a h => wk_X9_anew l h) (zk_l1 ⟨_, rfl, _, va_cwA 0 X.hts (zk_wsU q536 q538 q615 q616 q129 q617) rfl rfl rfl (X.nw (zk_nwm q537 rfl)) ⟨by decide, by decide, md_X9_anew.2.2⟩ ⟨Nat.le_of_ble_eq_true rfl, Nat.le_of_ble_eq_true rfl⟩⟩) rfl rfl (zk_rs (Nat.le_of_ble_eq_true rfl)) dX7_copied_1 ⟨by first | exact Nat.le_of_ble_eq_true rfl | omega | (dsimp only; omega), by first | exact Nat.le_of_ble_eq_true rfl | omega | (dsimp only; omega)⟩)) (fun v1 P1 h => zv_widen (by first | exact Nat.le_of_ble_eq_true rfl | omega | (dsimp only; omega)) (by first | exact Nat.le_of_ble_eq_true rfl | omega | (dsimp only; omega)) (hk v1 P1 h))
theorem md_X1_parcel : yX1_parcel.cls ≠ "java/lang/invoke/MethodHandle" ∧ yX1_parcel.cls ≠ "java/lang/invoke/VarHandle" ∧ (parseMethodDescriptor yX1_parcel.desc).map (fun d => d.parameters.length) = some 1 := by decide +kernel
theorem wk_X1_parcel (l : Launch) {D : zk_G} {g : zk_M} {b0 : Nat} {post : Option Nat → Prop} {this : Nat} {x1 : Int32} {P : zk_H} (hh : wp_X1_parcel post this x1 P) : Met l yX1_parcel (ws_ yX1_parcel cX1_parcel 2 (some (Jvm.ClassFile.FieldType.object "LandFolio$Parcel"))) ({ frames := 3, cells := 0, slots := 0, locals := 64 } : Room) (va_Pc [.ref this, .int (x1)] (zk_pre D g b0 P)) (va_Qq (fun r u => post r ∧ u = P) (zk_B D b0) (zk_A b0)) 0 0 (zk_A b0) := by
  refine zk_enter "LandFolio$Folio" "parcel" rfl rfl (plainFor_of_name (by decide)) [.ref this, .int (x1)] (Nat.le_of_ble_eq_true rfl) ?_
  intro p e s m args below meth c X
  refine zk_at0 (L' := [(0, va_rf (some this)), (1, .int (x1))]) (rfl) ?_
  have h := hh
  unfold wp_X1_parcel at h
  refine zv_aload_n X 0 dX1_parcel_0 rfl ?_
  refine zv_getf_r X fo_q194 dX1_parcel_1 h (fun v1 h => ?_)
  refine zv_iload_n X 1 dX1_parcel_4 rfl ?_
  refine zv_cqR ((zr_Vl X (As := [.int (x1)]) (rest := []) h (fun a h => wk_J2_get l h) (zk_l1 ⟨_, rfl, cwV 1 X.hts (lw_V q505 q506 q507 q106 q508) rfl rfl rfl ⟨rfl, md_J2_get⟩ ⟨Nat.le_of_ble_eq_true rfl, Nat.le_of_ble_eq_true rfl⟩⟩) rfl rfl (zk_rs (Nat.le_of_ble_eq_true rfl)) dX1_parcel_5 ⟨by first | exact Nat.le_of_ble_eq_true rfl | omega | (dsimp only; omega), by first | exact Nat.le_of_ble_eq_true rfl | omega | (dsimp only; omega)⟩)) (fun v5 h => ?_)
  refine zv_cast X zk_cs2 q300 dX1_parcel_8 h (fun h => ?_)
  exact zv_aret X rfl (Or.inl ⟨_, rfl⟩) (by first | exact Nat.le_of_ble_eq_true rfl | omega | (dsimp only; omega)) (by first | exact Nat.le_of_ble_eq_true rfl | omega | (dsimp only; omega)) dX1_parcel_11 ⟨h, rfl⟩
theorem md_X2_copied : yX2_copied.cls ≠ "java/lang/invoke/MethodHandle" ∧ yX2_copied.cls ≠ "java/lang/invoke/VarHandle" ∧ (parseMethodDescriptor yX2_copied.desc).map (fun d => d.parameters.length) = some 0 := by decide +kernel
theorem wk_X2_copied (l : Launch) {D : zk_G} {g : zk_M} {b0 : Nat} {post : Option Nat → zk_H → Prop} {this : Nat} {P : zk_H} (hh : wp_X2_copied post this P) : Met l yX2_copied (ws_ yX2_copied cX2_copied 2 (some (Jvm.ClassFile.FieldType.object "LandFolio$Parcel"))) ({ frames := 2, cells := 1, slots := 9, locals := 47 } : Room) (va_Pc [.ref this] (zk_pre D g b0 P)) (va_Qq post (zk_B D b0) (zk_A b0)) 1 9 (zk_A b0) := by
  refine zk_enter "LandFolio$Parcel" "copied" rfl rfl (plainFor_of_name (by decide)) [.ref this] (Nat.le_of_ble_eq_true rfl) ?_
  intro p e s m args below meth c X
  refine zk_at0 (L' := [(0, va_rf (some this))]) (rfl) ?_
  have h := hh
  unfold wp_X2_copied at h
  refine zv_new X zk_nc2 q523 (by first | exact Nat.le_of_ble_eq_true rfl | omega | (dsimp only; omega)) (by first | exact Nat.le_of_ble_eq_true rfl | omega | (dsimp only; omega)) dX2_copied_0 h (fun v0 P0 h => ?_)
  refine zv_dup X dX2_copied_3 (zk_rc _) ?_
  refine zv_aload_n X 0 dX2_copied_4 rfl ?_
  refine zv_getf_i X fo_q306 dX2_copied_5 h (fun v5 h => ?_)
  refine zv_aload_n X 0 dX2_copied_8 rfl ?_
  refine zv_getf_i X fo_q310 dX2_copied_9 h (fun v9 h => ?_)
  refine zv_aload_n X 0 dX2_copied_12 rfl ?_
  refine zv_getf_i X fo_q313 dX2_copied_13 h (fun v13 h => ?_)
  refine zv_aload_n X 0 dX2_copied_16 rfl ?_
  refine zv_getf_i X fo_q317 dX2_copied_17 h (fun v17 h => ?_)
  refine zv_aload_n X 0 dX2_copied_20 rfl ?_
  refine zv_getf_i X fo_q320 dX2_copied_21 h (fun v21 h => ?_)
  refine zv_aload_n X 0 dX2_copied_24 rfl ?_
  refine zv_getf_i X fo_q322 dX2_copied_25 h (fun v25 h => ?_)
  refine zv_aload_n X 0 dX2_copied_28 rfl ?_
  refine zv_getf_i X fo_q324 dX2_copied_29 h (fun v29 h => ?_)
  refine zv_cv ((zr_I X (As := [.int (v5), .int (v9), .int (v13), .int (v17), .int (v21), .int (v25), .int (v29)]) (rest := [va_rf (some v0)]) (wk_X2_init l h) (cwI 7 X.hts (lw_meth q304) rfl rfl rfl (X.w q111) (X.w q524) (X.w q303) rfl md_X2_init ⟨Nat.le_of_ble_eq_true rfl, Nat.le_of_ble_eq_true rfl⟩) rfl rfl (zk_rs (Nat.le_of_ble_eq_true rfl)) dX2_copied_32 ⟨by first | exact Nat.le_of_ble_eq_true rfl | omega | (dsimp only; omega), by first | exact Nat.le_of_ble_eq_true rfl | omega | (dsimp only; omega)⟩)) (fun P32 h => ?_)
  refine zv_astore_n X (i := 1) (L' := [(1, va_rf (some v0)), (0, va_rf (some this))]) dX2_copied_35 rfl (by decide) rfl ?_
  refine zv_aload_n X 0 dX2_copied_36 rfl ?_
  refine zv_aload_n X 1 dX2_copied_37 rfl ?_
  refine zv_getf_i X fo_q326 dX2_copied_38 h (fun v38 h => ?_)
  refine zv_put_i X fp_q326 (fun z => by cases z) dX2_copied_41 h (fun P41 h => ?_)
  refine zv_aload_n X 0 dX2_copied_44 rfl ?_
  refine zv_aload_n X 1 dX2_copied_45 rfl ?_
  refine zv_getf_i X fo_q330 dX2_copied_46 h (fun v46 h => ?_)
  refine zv_put_n X fp_q330 (fun z => by cases z) dX2_copied_49 h (fun P49 h => ?_)
  refine zv_aload_n X 0 dX2_copied_52 rfl ?_
  exact zv_aret X rfl (Or.inl ⟨_, rfl⟩) (by first | exact Nat.le_of_ble_eq_true rfl | omega | (dsimp only; omega)) (by first | exact Nat.le_of_ble_eq_true rfl | omega | (dsimp only; omega)) dX2_copied_53 h
theorem kb_X1_copied_101 {p : Program} {l : Launch} {e : Env} {s : State} {m : MethodId} {args : Array Value} {below : List Frame} {meth : Method} {c : Code} {D : zk_G} {g : zk_M} {b0 : Nat} (X : zk_X p s m args meth c D g b0 cX1_copied 3 "LandFolio$Folio" "copied" (some (Jvm.ClassFile.FieldType.object "LandFolio$Folio"))) {post : Option Nat → zk_H → Prop}  {K101 : Int32 → zk_H → Prop} {a0 : Option Nat} {a1 : Option Nat} {a2 : Int32} {P : zk_H} {c0 c1 : Nat}  (hK101 : ∀ (u2 : Int32) (U : zk_H), K101 u2 U → zV p l e ({ frames := 7, cells := 178, slots := 7131, locals := 171 } : Room) s m args below meth c D b0 3 (c0 + 4) (c1 + 106) (MQ below (va_Qq post (zk_B D b0) (zk_A b0)) args s 178 7131 (zk_A b0)) U 101 [(0, va_rf (a0)), (1, va_rf (a1)), (2, .int (u2))] []) (hc0 : c0 + 4 ≤ 176) (hc1 : c1 + 106 ≤ 6939) (hh : wb_X1_copied_101 g post a0 a1 K101 a2 P) : zV p l e ({ frames := 7, cells := 178, slots := 7131, locals := 171 } : Room) s m args below meth c D b0 3 (c0) (c1) (MQ below (va_Qq post (zk_B D b0) (zk_A b0)) args s 178 7131 (zk_A b0)) P 101 [(0, va_rf (a0)), (1, va_rf (a1)), (2, .int (a2))] [] := by
  have h := hh
  unfold wb_X1_copied_101 at h
  refine zv_iload_n X 2 dX1_copied_101 rfl ?_
  refine zv_aload_n X 0 dX1_copied_102 rfl ?_
  refine zv_getf_r X fo_q199 dX1_copied_103 h (fun v103 h => ?_)
  refine zv_ciR ((zr_Vl X (As := []) (rest := [.int (a2)]) h (fun a h => wk_J2_size l h) (zk_l1 ⟨_, rfl, cwV 0 X.hts (lw_V q361 q362 q363 q106 q364) rfl rfl rfl ⟨rfl, md_J2_size⟩ ⟨Nat.le_of_ble_eq_true rfl, Nat.le_of_ble_eq_true rfl⟩⟩) rfl rfl (zk_rs (Nat.le_of_ble_eq_true rfl)) dX1_copied_106 ⟨by first | exact Nat.le_of_ble_eq_true rfl | omega | (dsimp only; omega), by first | exact Nat.le_of_ble_eq_true rfl | omega | (dsimp only; omega)⟩)) (fun v106 h => ?_)
  refine zv_icmp_ge X (tgt := 134) dX1_copied_109 (by decide) h (fun h => ?_) (fun h => ?_)
  · refine zv_aload_n X 1 dX1_copied_134 rfl ?_
    refine zv_getf_r X fo_q203 dX1_copied_135 h (fun v135 h => ?_)
    refine zv_aload_n X 0 dX1_copied_138 rfl ?_
    refine zv_getf_r X fo_q203 dX1_copied_139 h (fun v139 h => ?_)
    refine zv_ci ((zr_Vl X (As := [va_rf (v139)]) (rest := []) h (fun a h => wk_J2_addAll l h) (zk_l1 ⟨_, rfl, cwV 1 X.hts (lw_V q471 q472 q473 q106 q474) rfl rfl rfl ⟨rfl, md_J2_addAll⟩ ⟨Nat.le_of_ble_eq_true rfl, Nat.le_of_ble_eq_true rfl⟩⟩) rfl rfl (zk_rs (Nat.le_of_ble_eq_true rfl)) dX1_copied_142 ⟨by first | exact Nat.le_of_ble_eq_true rfl | omega | (dsimp only; omega), by first | exact Nat.le_of_ble_eq_true rfl | omega | (dsimp only; omega)⟩)) (fun v142 P142 h => ?_)
    refine zv_pop X dX1_copied_145 rfl ?_
    refine zv_aload_n X 1 dX1_copied_146 rfl ?_
    exact zv_aret X rfl (Or.inl ⟨_, rfl⟩) (by first | exact Nat.le_of_ble_eq_true rfl | omega | (dsimp only; omega)) (by first | exact Nat.le_of_ble_eq_true rfl | omega | (dsimp only; omega)) dX1_copied_147 h
  · refine zv_aload_n X 1 dX1_copied_112 rfl ?_
    refine zv_getf_r X fo_q199 dX1_copied_113 h (fun v113 h => ?_)
    refine zv_aload_n X 0 dX1_copied_116 rfl ?_
    refine zv_iload_n X 2 dX1_copied_117 rfl ?_
    refine zv_cqR ((zr_Vl X (As := [.int (a2)]) (rest := [va_rf (v113)]) h (fun a h => wk_X1_burden l h) (zk_l1 ⟨_, rfl, cwV 1 X.hts (lw_V q525 q526 q527 q103 q528) rfl rfl rfl ⟨rfl, md_X1_burden⟩ ⟨Nat.le_of_ble_eq_true rfl, Nat.le_of_ble_eq_true rfl⟩⟩) rfl rfl (zk_rs (Nat.le_of_ble_eq_true rfl)) dX1_copied_118 ⟨by first | exact Nat.le_of_ble_eq_true rfl | omega | (dsimp only; omega), by first | exact Nat.le_of_ble_eq_true rfl | omega | (dsimp only; omega)⟩)) (fun v118 h => ?_)
    refine zv_cq ((zr_Ul X (As := []) (rest := [va_rf (v113)]) h (fun a h => wk_X7_copied l h) (zk_l2 ⟨_, rfl, _, va_cwU 0 X.hts (zk_wsU q530 q532 q533 q531 q127 q535) rfl rfl rfl rfl md_X7_copied ⟨Nat.le_of_ble_eq_true rfl, Nat.le_of_ble_eq_true rfl⟩⟩ ⟨_, rfl, _, va_cwU 0 X.hts (zk_wsU q530 q532 q534 q531 q127 q535) rfl rfl rfl rfl md_X7_copied ⟨Nat.le_of_ble_eq_true rfl, Nat.le_of_ble_eq_true rfl⟩⟩) rfl rfl (zk_rs (Nat.le_of_ble_eq_true rfl)) dX1_copied_121 ⟨by first | exact Nat.le_of_ble_eq_true rfl | omega | (dsimp only; omega), by first | exact Nat.le_of_ble_eq_true rfl | omega | (dsimp only; omega)⟩)) (fun v121 P121 h => ?_)
    refine zv_ci ((zr_Vl X (As := [va_rf (v121)]) (rest := []) h (fun a h => wk_J2_add l h) (zk_l1 ⟨_, rfl, cwV 1 X.hts (lw_V q358 q226 q227 q106 q228) rfl rfl rfl ⟨rfl, md_J2_add⟩ ⟨Nat.le_of_ble_eq_true rfl, Nat.le_of_ble_eq_true rfl⟩⟩) rfl rfl (zk_rs (Nat.le_of_ble_eq_true rfl)) dX1_copied_124 ⟨by first | exact Nat.le_of_ble_eq_true rfl | omega | (dsimp only; omega), by first | exact Nat.le_of_ble_eq_true rfl | omega | (dsimp only; omega)⟩)) (fun v124 P124 h => ?_)
    refine zv_pop X dX1_copied_127 rfl ?_
    obtain ⟨v128, e128, h⟩ := zt_e h
    refine zv_iinc X (v := v128) (L' := [(2, .int (v128)), (0, va_rf (a0)), (1, va_rf (a1))]) 2 dX1_copied_128 rfl e128 (by decide) (by simp [zk_s1, zk_rc, zk_ic, zk_jc]) ?_
    refine zv_goto X (tgt := 101) dX1_copied_131 (by decide) ?_
    refine zv_sub (L' := [(0, va_rf (a0)), (1, va_rf (a1)), (2, .int (v128))]) [1, 2, 0] rfl ?_
    refine zv_widen (c2 := c0 + 4) (s2 := c1 + 106) (by omega) (by omega) ?_
    exact hK101 _ _ h
theorem kl_X1_copied_101 {p : Program} {l : Launch} {e : Env} {s : State} {m : MethodId} {args : Array Value} {below : List Frame} {meth : Method} {c : Code} {D : zk_G} {g : zk_M} {b0 : Nat} (X : zk_X p s m args meth c D g b0 cX1_copied 3 "LandFolio$Folio" "copied" (some (Jvm.ClassFile.FieldType.object "LandFolio$Folio"))) {post : Option Nat → zk_H → Prop}  {a0 : Option Nat} {a1 : Option Nat}   : ∀ (n c0 c1 : Nat), c0 + n * 4 ≤ 176 → c1 + n * 106 ≤ 6939 → ∀ (a2 : Int32) (P : zk_H), wl_X1_copied_101 g post a0 a1 n a2 P → zV p l e ({ frames := 7, cells := 178, slots := 7131, locals := 171 } : Room) s m args below meth c D b0 3 (c0) (c1) (MQ below (va_Qq post (zk_B D b0) (zk_A b0)) args s 178 7131 (zk_A b0)) P 101 [(0, va_rf (a0)), (1, va_rf (a1)), (2, .int (a2))] [] := by
  intro n
  induction n with
  | zero => intro c0 c1 _ _ _ _ h; exact h.elim
  | succ n ih =>
    intro c0 c1 hn0 hn1 a2 P h
    exact kb_X1_copied_101 X  (fun u0 u1 h => ih _ _ (by omega) (by omega) _ _ h) (by omega) (by omega) h
theorem kb_X1_copied_54 {p : Program} {l : Launch} {e : Env} {s : State} {m : MethodId} {args : Array Value} {below : List Frame} {meth : Method} {c : Code} {D : zk_G} {g : zk_M} {b0 : Nat} (X : zk_X p s m args meth c D g b0 cX1_copied 3 "LandFolio$Folio" "copied" (some (Jvm.ClassFile.FieldType.object "LandFolio$Folio"))) {post : Option Nat → zk_H → Prop}  {K54 : Int32 → zk_H → Prop} {a0 : Option Nat} {a1 : Option Nat} {a2 : Int32} {P : zk_H} {c0 c1 : Nat}  (hK54 : ∀ (u2 : Int32) (U : zk_H), K54 u2 U → zV p l e ({ frames := 7, cells := 178, slots := 7131, locals := 171 } : Room) s m args below meth c D b0 3 (c0 + 2) (c1 + 105) (MQ below (va_Qq post (zk_B D b0) (zk_A b0)) args s 178 7131 (zk_A b0)) U 54 [(0, va_rf (a0)), (1, va_rf (a1)), (2, .int (u2))] []) (hc0 : c0 + 2 ≤ 90) (hc1 : c1 + 105 ≤ 4521) (hh : wb_X1_copied_54 g post a0 a1 K54 a2 P) : zV p l e ({ frames := 7, cells := 178, slots := 7131, locals := 171 } : Room) s m args below meth c D b0 3 (c0) (c1) (MQ below (va_Qq post (zk_B D b0) (zk_A b0)) args s 178 7131 (zk_A b0)) P 54 [(0, va_rf (a0)), (1, va_rf (a1)), (2, .int (a2))] [] := by
  have h := hh
  unfold wb_X1_copied_54 at h
  refine zv_iload_n X 2 dX1_copied_54 rfl ?_
  refine zv_aload_n X 0 dX1_copied_55 rfl ?_
  refine zv_getf_r X fo_q194 dX1_copied_56 h (fun v56 h => ?_)
  refine zv_ciR ((zr_Vl X (As := []) (rest := [.int (a2)]) h (fun a h => wk_J2_size l h) (zk_l1 ⟨_, rfl, cwV 0 X.hts (lw_V q361 q362 q363 q106 q364) rfl rfl rfl ⟨rfl, md_J2_size⟩ ⟨Nat.le_of_ble_eq_true rfl, Nat.le_of_ble_eq_true rfl⟩⟩) rfl rfl (zk_rs (Nat.le_of_ble_eq_true rfl)) dX1_copied_59 ⟨by first | exact Nat.le_of_ble_eq_true rfl | omega | (dsimp only; omega), by first | exact Nat.le_of_ble_eq_true rfl | omega | (dsimp only; omega)⟩)) (fun v59 h => ?_)
  refine zv_icmp_ge X (tgt := 87) dX1_copied_62 (by decide) h (fun h => ?_) (fun h => ?_)
  · refine zv_aload_n X 1 dX1_copied_87 rfl ?_
    refine zv_getf_r X fo_q197 dX1_copied_88 h (fun v88 h => ?_)
    refine zv_aload_n X 0 dX1_copied_91 rfl ?_
    refine zv_getf_r X fo_q197 dX1_copied_92 h (fun v92 h => ?_)
    refine zv_ci ((zr_Vl X (As := [va_rf (v92)]) (rest := []) h (fun a h => wk_J2_addAll l h) (zk_l1 ⟨_, rfl, cwV 1 X.hts (lw_V q471 q472 q473 q106 q474) rfl rfl rfl ⟨rfl, md_J2_addAll⟩ ⟨Nat.le_of_ble_eq_true rfl, Nat.le_of_ble_eq_true rfl⟩⟩) rfl rfl (zk_rs (Nat.le_of_ble_eq_true rfl)) dX1_copied_95 ⟨by first | exact Nat.le_of_ble_eq_true rfl | omega | (dsimp only; omega), by first | exact Nat.le_of_ble_eq_true rfl | omega | (dsimp only; omega)⟩)) (fun v95 P95 h => ?_)
    refine zv_pop X dX1_copied_98 rfl ?_
    refine zv_iconst X (v := 0) dX1_copied_99 rfl ?_
    refine zv_istore_n X (i := 2) (L' := [(2, .int (0)), (0, va_rf (a0)), (1, va_rf (a1))]) dX1_copied_100 rfl (by decide) (by simp [zk_s1, zk_s2, zk_rc, zk_ic, zk_jc]) ?_
    refine zv_sub (L' := [(0, va_rf (a0)), (1, va_rf (a1)), (2, .int (0))]) [1, 2, 0] rfl ?_
    refine zv_widen (c2 := 92) (s2 := 4713) (by omega) (by omega) ?_
    exact kl_X1_copied_101 X  21 _ _ (by omega) (by omega) _ _ h
  · refine zv_aload_n X 1 dX1_copied_65 rfl ?_
    refine zv_getf_r X fo_q194 dX1_copied_66 h (fun v66 h => ?_)
    refine zv_aload_n X 0 dX1_copied_69 rfl ?_
    refine zv_iload_n X 2 dX1_copied_70 rfl ?_
    refine zv_cqR ((zr_Vl X (As := [.int (a2)]) (rest := [va_rf (v66)]) h (fun a h => wk_X1_parcel l h) (zk_l1 ⟨_, rfl, cwV 1 X.hts (lw_V q501 q502 q503 q103 q504) rfl rfl rfl ⟨rfl, md_X1_parcel⟩ ⟨Nat.le_of_ble_eq_true rfl, Nat.le_of_ble_eq_true rfl⟩⟩) rfl rfl (zk_rs (Nat.le_of_ble_eq_true rfl)) dX1_copied_71 ⟨by first | exact Nat.le_of_ble_eq_true rfl | omega | (dsimp only; omega), by first | exact Nat.le_of_ble_eq_true rfl | omega | (dsimp only; omega)⟩)) (fun v71 h => ?_)
    refine zv_cq ((zr_Vl X (As := []) (rest := [va_rf (v66)]) h (fun a h => wk_X2_copied l h) (zk_l1 ⟨_, rfl, cwV 0 X.hts (lw_V q519 q520 q521 q111 q522) rfl rfl rfl ⟨rfl, md_X2_copied⟩ ⟨Nat.le_of_ble_eq_true rfl, Nat.le_of_ble_eq_true rfl⟩⟩) rfl rfl (zk_rs (Nat.le_of_ble_eq_true rfl)) dX1_copied_74 ⟨by first | exact Nat.le_of_ble_eq_true rfl | omega | (dsimp only; omega), by first | exact Nat.le_of_ble_eq_true rfl | omega | (dsimp only; omega)⟩)) (fun v74 P74 h => ?_)
    refine zv_ci ((zr_Vl X (As := [va_rf (v74)]) (rest := []) h (fun a h => wk_J2_add l h) (zk_l1 ⟨_, rfl, cwV 1 X.hts (lw_V q358 q226 q227 q106 q228) rfl rfl rfl ⟨rfl, md_J2_add⟩ ⟨Nat.le_of_ble_eq_true rfl, Nat.le_of_ble_eq_true rfl⟩⟩) rfl rfl (zk_rs (Nat.le_of_ble_eq_true rfl)) dX1_copied_77 ⟨by first | exact Nat.le_of_ble_eq_true rfl | omega | (dsimp only; omega), by first | exact Nat.le_of_ble_eq_true rfl | omega | (dsimp only; omega)⟩)) (fun v77 P77 h => ?_)
    refine zv_pop X dX1_copied_80 rfl ?_
    obtain ⟨v81, e81, h⟩ := zt_e h
    refine zv_iinc X (v := v81) (L' := [(2, .int (v81)), (0, va_rf (a0)), (1, va_rf (a1))]) 2 dX1_copied_81 rfl e81 (by decide) (by simp [zk_s1, zk_rc, zk_ic, zk_jc]) ?_
    refine zv_goto X (tgt := 54) dX1_copied_84 (by decide) ?_
    refine zv_sub (L' := [(0, va_rf (a0)), (1, va_rf (a1)), (2, .int (v81))]) [1, 2, 0] rfl ?_
    refine zv_widen (c2 := c0 + 2) (s2 := c1 + 105) (by omega) (by omega) ?_
    exact hK54 _ _ h
theorem kl_X1_copied_54 {p : Program} {l : Launch} {e : Env} {s : State} {m : MethodId} {args : Array Value} {below : List Frame} {meth : Method} {c : Code} {D : zk_G} {g : zk_M} {b0 : Nat} (X : zk_X p s m args meth c D g b0 cX1_copied 3 "LandFolio$Folio" "copied" (some (Jvm.ClassFile.FieldType.object "LandFolio$Folio"))) {post : Option Nat → zk_H → Prop}  {a0 : Option Nat} {a1 : Option Nat}   : ∀ (n c0 c1 : Nat), c0 + n * 2 ≤ 90 → c1 + n * 105 ≤ 4521 → ∀ (a2 : Int32) (P : zk_H), wl_X1_copied_54 g post a0 a1 n a2 P → zV p l e ({ frames := 7, cells := 178, slots := 7131, locals := 171 } : Room) s m args below meth c D b0 3 (c0) (c1) (MQ below (va_Qq post (zk_B D b0) (zk_A b0)) args s 178 7131 (zk_A b0)) P 54 [(0, va_rf (a0)), (1, va_rf (a1)), (2, .int (a2))] [] := by
  intro n
  induction n with
  | zero => intro c0 c1 _ _ _ _ h; exact h.elim
  | succ n ih =>
    intro c0 c1 hn0 hn1 a2 P h
    exact kb_X1_copied_54 X  (fun u0 u1 h => ih _ _ (by omega) (by omega) _ _ h) (by omega) (by omega) h
theorem md_X1_copied : yX1_copied.cls ≠ "java/lang/invoke/MethodHandle" ∧ yX1_copied.cls ≠ "java/lang/invoke/VarHandle" ∧ (parseMethodDescriptor yX1_copied.desc).map (fun d => d.parameters.length) = some 0 := by decide +kernel
theorem wk_X1_copied (l : Launch) {D : zk_G} {g : zk_M} {b0 : Nat} {post : Option Nat → zk_H → Prop} {this : Nat} {P : zk_H} (hh : wp_X1_copied g post this P) : Met l yX1_copied (ws_ yX1_copied cX1_copied 3 (some (Jvm.ClassFile.FieldType.object "LandFolio$Folio"))) ({ frames := 7, cells := 178, slots := 7131, locals := 171 } : Room) (va_Pc [.ref this] (zk_pre D g b0 P)) (va_Qq post (zk_B D b0) (zk_A b0)) 178 7131 (zk_A b0) := by
  refine zk_enter "LandFolio$Folio" "copied" rfl rfl (plainFor_of_name (by decide)) [.ref this] (Nat.le_of_ble_eq_true rfl) ?_
  intro p e s m args below meth c X
  refine zk_at0 (L' := [(0, va_rf (some this))]) (rfl) ?_
  have h := hh
  unfold wp_X1_copied at h
  refine zv_new X zk_nc1 q469 (by first | exact Nat.le_of_ble_eq_true rfl | omega | (dsimp only; omega)) (by first | exact Nat.le_of_ble_eq_true rfl | omega | (dsimp only; omega)) dX1_copied_0 h (fun v0 P0 h => ?_)
  refine zv_dup X dX1_copied_3 (zk_rc _) ?_
  refine zv_cv ((zr_I X (As := []) (rest := [va_rf (some v0)]) (wk_X1_init l h) (cwI 0 X.hts (lw_meth q155) rfl rfl rfl (X.w q103) (X.w q470) (X.w q154) rfl md_X1_init ⟨Nat.le_of_ble_eq_true rfl, Nat.le_of_ble_eq_true rfl⟩) rfl rfl (zk_rs (Nat.le_of_ble_eq_true rfl)) dX1_copied_4 ⟨by first | exact Nat.le_of_ble_eq_true rfl | omega | (dsimp only; omega), by first | exact Nat.le_of_ble_eq_true rfl | omega | (dsimp only; omega)⟩)) (fun P4 h => ?_)
  refine zv_astore_n X (i := 1) (L' := [(1, va_rf (some v0)), (0, va_rf (some this))]) dX1_copied_7 rfl (by decide) rfl ?_
  refine zv_aload_n X 0 dX1_copied_8 rfl ?_
  refine zv_aload_n X 1 dX1_copied_9 rfl ?_
  refine zv_getf_i X fo_q183 dX1_copied_10 h (fun v10 h => ?_)
  refine zv_put_i X fp_q183 (fun z => by cases z) dX1_copied_13 h (fun P13 h => ?_)
  refine zv_aload_n X 0 dX1_copied_16 rfl ?_
  refine zv_aload_n X 1 dX1_copied_17 rfl ?_
  refine zv_getf_i X fo_q185 dX1_copied_18 h (fun v18 h => ?_)
  refine zv_put_i X fp_q185 (fun z => by cases z) dX1_copied_21 h (fun P21 h => ?_)
  refine zv_aload_n X 0 dX1_copied_24 rfl ?_
  refine zv_aload_n X 1 dX1_copied_25 rfl ?_
  refine zv_getf_i X fo_q187 dX1_copied_26 h (fun v26 h => ?_)
  refine zv_put_i X fp_q187 (fun z => by cases z) dX1_copied_29 h (fun P29 h => ?_)
  refine zv_aload_n X 0 dX1_copied_32 rfl ?_
  refine zv_aload_n X 1 dX1_copied_33 rfl ?_
  refine zv_getf_i X fo_q189 dX1_copied_34 h (fun v34 h => ?_)
  refine zv_put_i X fp_q189 (fun z => by cases z) dX1_copied_37 h (fun P37 h => ?_)
  refine zv_aload_n X 0 dX1_copied_40 rfl ?_
  refine zv_getf_r X fo_q191 dX1_copied_41 h (fun v41 h => ?_)
  refine zv_aload_n X 1 dX1_copied_44 rfl ?_
  refine zv_getf_r X fo_q191 dX1_copied_45 h (fun v45 h => ?_)
  refine zv_ci ((zr_Vl X (As := [va_rf (v45)]) (rest := []) h (fun a h => wk_J2_addAll l h) (zk_l1 ⟨_, rfl, cwV 1 X.hts (lw_V q471 q472 q473 q106 q474) rfl rfl rfl ⟨rfl, md_J2_addAll⟩ ⟨Nat.le_of_ble_eq_true rfl, Nat.le_of_ble_eq_true rfl⟩⟩) rfl rfl (zk_rs (Nat.le_of_ble_eq_true rfl)) dX1_copied_48 ⟨by first | exact Nat.le_of_ble_eq_true rfl | omega | (dsimp only; omega), by first | exact Nat.le_of_ble_eq_true rfl | omega | (dsimp only; omega)⟩)) (fun v48 P48 h => ?_)
  refine zv_pop X dX1_copied_51 rfl ?_
  refine zv_iconst X (v := 0) dX1_copied_52 rfl ?_
  refine zv_istore_n X (i := 2) (L' := [(2, .int (0)), (1, va_rf (some v0)), (0, va_rf (some this))]) dX1_copied_53 rfl (by decide) rfl ?_
  refine zv_sub (L' := [(0, va_rf (some this)), (1, va_rf (some v0)), (2, .int (0))]) [2, 1, 0] rfl ?_
  refine zv_widen (c2 := 8) (s2 := 216) (by omega) (by omega) ?_
  exact kl_X1_copied_54 X  41 _ _ (by omega) (by omega) _ _ h
theorem md_X0_keep : yX0_keep.cls ≠ "java/lang/invoke/MethodHandle" ∧ yX0_keep.cls ≠ "java/lang/invoke/VarHandle" ∧ (parseMethodDescriptor yX0_keep.desc).map (fun d => d.parameters.length) = some 1 := by decide +kernel
theorem wk_X0_keep (l : Launch) {D : zk_G} {g : zk_M} {b0 : Nat} {post : Int32 → zk_H → Prop} {this : Nat} {x1 : Int32} {P : zk_H} (hh : wp_X0_keep g post this x1 P) : Met l yX0_keep (ws_ yX0_keep cX0_keep 2 (some Jvm.ClassFile.FieldType.int)) ({ frames := 8, cells := 178, slots := 7131, locals := 193 } : Room) (va_Pc [.ref this, .int (x1)] (zk_pre D g b0 P)) (va_Qi post (zk_B D b0) (zk_A b0)) 178 7131 (zk_A b0) := by
  refine zk_enter "LandFolio" "keep" rfl rfl (plainFor_of_name (by decide)) [.ref this, .int (x1)] (Nat.le_of_ble_eq_true rfl) ?_
  intro p e s m args below meth c X
  refine zk_at0 (L' := [(0, va_rf (some this)), (1, .int (x1))]) (rfl) ?_
  have h := hh
  unfold wp_X0_keep at h
  refine zv_iload_n X 1 dX0_keep_0 rfl ?_
  refine zv_ciR ((zr_S X (As := [.int (x1)]) (rest := []) (wk_X0_isSlot l h) (va_cwS 1 X.hts (lw_S q459 q460 q102 q461) rfl rfl rfl md_X0_isSlot ⟨Nat.le_of_ble_eq_true rfl, Nat.le_of_ble_eq_true rfl⟩) rfl rfl (zk_rs (Nat.le_of_ble_eq_true rfl)) dX0_keep_1 ⟨by first | exact Nat.le_of_ble_eq_true rfl | omega | (dsimp only; omega), by first | exact Nat.le_of_ble_eq_true rfl | omega | (dsimp only; omega)⟩)) (fun v1 h => ?_)
  refine zv_if_ne X (tgt := 9) dX0_keep_4 (by decide) h (fun h => ?_) (fun h => ?_)
  · refine zv_aload_n X 0 dX0_keep_9 rfl ?_
    refine zv_getf_r X fo_q404 dX0_keep_10 h (fun v10 h => ?_)
    refine zv_iload_n X 1 dX0_keep_13 rfl ?_
    refine zv_aload_n X 0 dX0_keep_14 rfl ?_
    refine zv_getf_r X fo_q402 dX0_keep_15 h (fun v15 h => ?_)
    refine zv_cq ((zr_Vl X (As := []) (rest := [.int (x1), va_rf (v10)]) h (fun a h => wk_X1_copied l h) (zk_l1 ⟨_, rfl, cwV 0 X.hts (lw_V q465 q466 q467 q103 q468) rfl rfl rfl ⟨rfl, md_X1_copied⟩ ⟨Nat.le_of_ble_eq_true rfl, Nat.le_of_ble_eq_true rfl⟩⟩) rfl rfl (zk_rs (Nat.le_of_ble_eq_true rfl)) dX0_keep_18 ⟨by first | exact Nat.le_of_ble_eq_true rfl | omega | (dsimp only; omega), by first | exact Nat.le_of_ble_eq_true rfl | omega | (dsimp only; omega)⟩)) (fun v18 P18 h => ?_)
    refine zv_aast X zk_mayok dX0_keep_21 h (fun P21 h => ?_)
    refine zv_aload_n X 0 dX0_keep_22 rfl ?_
    refine zv_getf_r X fo_q402 dX0_keep_23 h (fun v23 h => ?_)
    refine zv_getf_r X fo_q195 dX0_keep_26 h (fun v26 h => ?_)
    refine zv_ciR ((zr_Vl X (As := []) (rest := []) h (fun a h => wk_J2_size l h) (zk_l1 ⟨_, rfl, cwV 0 X.hts (lw_V q672 q362 q363 q106 q364) rfl rfl rfl ⟨rfl, md_J2_size⟩ ⟨Nat.le_of_ble_eq_true rfl, Nat.le_of_ble_eq_true rfl⟩⟩) rfl rfl (zk_rs (Nat.le_of_ble_eq_true rfl)) dX0_keep_29 ⟨by first | exact Nat.le_of_ble_eq_true rfl | omega | (dsimp only; omega), by first | exact Nat.le_of_ble_eq_true rfl | omega | (dsimp only; omega)⟩)) (fun v29 h => ?_)
    exact zv_iret X rfl (by first | exact Nat.le_of_ble_eq_true rfl | omega | (dsimp only; omega)) (by first | exact Nat.le_of_ble_eq_true rfl | omega | (dsimp only; omega)) dX0_keep_32 h
  · refine zv_iconst X (v := -1) dX0_keep_7 rfl ?_
    exact zv_iret X rfl (by first | exact Nat.le_of_ble_eq_true rfl | omega | (dsimp only; omega)) (by first | exact Nat.le_of_ble_eq_true rfl | omega | (dsimp only; omega)) dX0_keep_8 h
theorem kj_X0_done_23 {p : Program} {l : Launch} {e : Env} {s : State} {m : MethodId} {args : Array Value} {below : List Frame} {meth : Method} {c : Code} {D : zk_G} {g : zk_M} {b0 : Nat} (X : zk_X p s m args meth c D g b0 cX0_done 4 "LandFolio" "done" (some Jvm.ClassFile.FieldType.int)) {post : Int32 → zk_H → Prop}  {a0 : Option Nat} {a1 : Option Nat} {a2 : Int32} {P : zk_H}    (hh : wj_X0_done_23 post a0 a1 a2 P) : zV p l e ({ frames := 3, cells := 0, slots := 0, locals := 65 } : Room) s m args below meth c D b0 4 (0) (0) (MQ below (va_Qi post (zk_B D b0) (zk_A b0)) args s 0 0 (zk_A b0)) P 23 [(0, va_rf (a0)), (1, va_rf (a1)), (2, .int (a2))] [] := by
  have h := hh
  unfold wj_X0_done_23 at h
  refine zv_aload_n X 0 dX0_done_23 rfl ?_
  refine zv_getf_r X fo_q403 dX0_done_24 h (fun v24 h => ?_)
  refine zv_aload_n X 1 dX0_done_27 rfl ?_
  refine zv_cv ((zr_Vl X (As := [va_rf (a1)]) (rest := []) h (fun a h => wk_J6_addLast l h) (zk_l1 ⟨_, rfl, cwV 1 X.hts (lw_V q692 q693 q694 q113 q695) rfl rfl rfl ⟨rfl, md_J6_addLast⟩ ⟨Nat.le_of_ble_eq_true rfl, Nat.le_of_ble_eq_true rfl⟩⟩) rfl rfl (zk_rs (Nat.le_of_ble_eq_true rfl)) dX0_done_28 ⟨by first | exact Nat.le_of_ble_eq_true rfl | omega | (dsimp only; omega), by first | exact Nat.le_of_ble_eq_true rfl | omega | (dsimp only; omega)⟩)) (fun P28 h => ?_)
  refine zv_iload_n X 2 dX0_done_31 rfl ?_
  exact zv_iret X rfl (by first | exact Nat.le_of_ble_eq_true rfl | omega | (dsimp only; omega)) (by first | exact Nat.le_of_ble_eq_true rfl | omega | (dsimp only; omega)) dX0_done_32 h
theorem md_X0_done : yX0_done.cls ≠ "java/lang/invoke/MethodHandle" ∧ yX0_done.cls ≠ "java/lang/invoke/VarHandle" ∧ (parseMethodDescriptor yX0_done.desc).map (fun d => d.parameters.length) = some 2 := by decide +kernel
theorem wk_X0_done (l : Launch) {D : zk_G} {g : zk_M} {b0 : Nat} {post : Int32 → zk_H → Prop} {this : Nat} {x1 : Option Nat} {x2 : Int32} {P : zk_H} (hh : wp_X0_done post this x1 x2 P) : Met l yX0_done (ws_ yX0_done cX0_done 4 (some Jvm.ClassFile.FieldType.int)) ({ frames := 3, cells := 0, slots := 0, locals := 65 } : Room) (va_Pc [.ref this, va_rf (x1), .int (x2)] (zk_pre D g b0 P)) (va_Qi post (zk_B D b0) (zk_A b0)) 0 0 (zk_A b0) := by
  refine zk_enter "LandFolio" "done" rfl rfl (plainFor_of_name (by decide)) [.ref this, va_rf (x1), .int (x2)] (by cases x1 <;> exact Nat.le_of_ble_eq_true rfl) ?_
  intro p e s m args below meth c X
  refine zk_at0 (L' := [(0, va_rf (some this)), (1, va_rf (x1)), (2, .int (x2))]) (by cases x1 <;> rfl) ?_
  have h := hh
  unfold wp_X0_done at h
  refine zv_aload_n X 0 dX0_done_0 rfl ?_
  refine zv_getf_r X fo_q403 dX0_done_1 h (fun v1 h => ?_)
  refine zv_ciR ((zr_Vl X (As := []) (rest := []) h (fun a h => wk_J6_size l h) (zk_l1 ⟨_, rfl, cwV 0 X.hts (lw_V q448 q449 q450 q113 q451) rfl rfl rfl ⟨rfl, md_J6_size⟩ ⟨Nat.le_of_ble_eq_true rfl, Nat.le_of_ble_eq_true rfl⟩⟩) rfl rfl (zk_rs (Nat.le_of_ble_eq_true rfl)) dX0_done_4 ⟨by first | exact Nat.le_of_ble_eq_true rfl | omega | (dsimp only; omega), by first | exact Nat.le_of_ble_eq_true rfl | omega | (dsimp only; omega)⟩)) (fun v4 h => ?_)
  refine zv_bipush X (v := 8) dX0_done_7 rfl ?_
  refine zv_icmp_ne X (tgt := 23) dX0_done_9 (by decide) h (fun h => ?_) (fun h => ?_)
  · exact kj_X0_done_23 X  h
  · refine zv_aload_n X 0 dX0_done_12 rfl ?_
    refine zv_getf_r X fo_q403 dX0_done_13 h (fun v13 h => ?_)
    refine zv_cq ((zr_Vl X (As := []) (rest := []) h (fun a h => wk_J6_removeFirst l h) (zk_l1 ⟨_, rfl, cwV 0 X.hts (lw_V q681 q682 q683 q113 q684) rfl rfl rfl ⟨rfl, md_J6_removeFirst⟩ ⟨Nat.le_of_ble_eq_true rfl, Nat.le_of_ble_eq_true rfl⟩⟩) rfl rfl (zk_rs (Nat.le_of_ble_eq_true rfl)) dX0_done_16 ⟨by first | exact Nat.le_of_ble_eq_true rfl | omega | (dsimp only; omega), by first | exact Nat.le_of_ble_eq_true rfl | omega | (dsimp only; omega)⟩)) (fun v16 P16 h => ?_)
    refine zv_cast X zk_cs0 q151 dX0_done_19 h (fun h => ?_)
    refine zv_astore_n X (i := 3) (L' := [(3, va_rf (v16)), (0, va_rf (some this)), (1, va_rf (x1)), (2, .int (x2))]) dX0_done_22 rfl (by decide) rfl ?_
    refine zv_sub (L' := [(0, va_rf (some this)), (1, va_rf (x1)), (2, .int (x2))]) [1, 2, 3] rfl ?_
    exact kj_X0_done_23 X  h
theorem md_X0_restore : yX0_restore.cls ≠ "java/lang/invoke/MethodHandle" ∧ yX0_restore.cls ≠ "java/lang/invoke/VarHandle" ∧ (parseMethodDescriptor yX0_restore.desc).map (fun d => d.parameters.length) = some 1 := by decide +kernel
theorem wk_X0_restore (l : Launch) {D : zk_G} {g : zk_M} {b0 : Nat} {post : Int32 → zk_H → Prop} {this : Nat} {x1 : Int32} {P : zk_H} (hh : wp_X0_restore g post this x1 P) : Met l yX0_restore (ws_ yX0_restore cX0_restore 3 (some Jvm.ClassFile.FieldType.int)) ({ frames := 8, cells := 178, slots := 7131, locals := 193 } : Room) (va_Pc [.ref this, .int (x1)] (zk_pre D g b0 P)) (va_Qi post (zk_B D b0) (zk_A b0)) 178 7131 (zk_A b0) := by
  refine zk_enter "LandFolio" "restore" rfl rfl (plainFor_of_name (by decide)) [.ref this, .int (x1)] (Nat.le_of_ble_eq_true rfl) ?_
  intro p e s m args below meth c X
  refine zk_at0 (L' := [(0, va_rf (some this)), (1, .int (x1))]) (rfl) ?_
  have h := hh
  unfold wp_X0_restore at h
  refine zv_iload_n X 1 dX0_restore_0 rfl ?_
  refine zv_ciR ((zr_S X (As := [.int (x1)]) (rest := []) (wk_X0_isSlot l h) (va_cwS 1 X.hts (lw_S q459 q460 q102 q461) rfl rfl rfl md_X0_isSlot ⟨Nat.le_of_ble_eq_true rfl, Nat.le_of_ble_eq_true rfl⟩) rfl rfl (zk_rs (Nat.le_of_ble_eq_true rfl)) dX0_restore_1 ⟨by first | exact Nat.le_of_ble_eq_true rfl | omega | (dsimp only; omega), by first | exact Nat.le_of_ble_eq_true rfl | omega | (dsimp only; omega)⟩)) (fun v1 h => ?_)
  refine zv_if_ne X (tgt := 9) dX0_restore_4 (by decide) h (fun h => ?_) (fun h => ?_)
  · refine zv_aload_n X 0 dX0_restore_9 rfl ?_
    refine zv_getf_r X fo_q404 dX0_restore_10 h (fun v10 h => ?_)
    refine zv_iload_n X 1 dX0_restore_13 rfl ?_
    refine zv_aald X dX0_restore_14 h (fun v14 h => ?_)
    refine zv_ifnonnull X (tgt := 21) dX0_restore_15 (by decide) h (fun h => ?_) (fun h => ?_)
    · refine zv_aload_n X 0 dX0_restore_21 rfl ?_
      refine zv_getf_r X fo_q402 dX0_restore_22 h (fun v22 h => ?_)
      refine zv_astore_n X (i := 2) (L' := [(2, va_rf (v22)), (0, va_rf (some this)), (1, .int (x1))]) dX0_restore_25 rfl (by decide) rfl ?_
      refine zv_aload_n X 1 dX0_restore_26 rfl ?_
      refine zv_aload_n X 1 dX0_restore_27 rfl ?_
      refine zv_getf_r X fo_q404 dX0_restore_28 h (fun v28 h => ?_)
      refine zv_iload_n X 2 dX0_restore_31 rfl ?_
      refine zv_aald X dX0_restore_32 h (fun v32 h => ?_)
      refine zv_cq ((zr_Vl X (As := []) (rest := [va_rf (some this)]) h (fun a h => wk_X1_copied l h) (zk_l1 ⟨_, rfl, cwV 0 X.hts (lw_V q465 q466 q467 q103 q468) rfl rfl rfl ⟨rfl, md_X1_copied⟩ ⟨Nat.le_of_ble_eq_true rfl, Nat.le_of_ble_eq_true rfl⟩⟩) rfl rfl (zk_rs (Nat.le_of_ble_eq_true rfl)) dX0_restore_33 ⟨by first | exact Nat.le_of_ble_eq_true rfl | omega | (dsimp only; omega), by first | exact Nat.le_of_ble_eq_true rfl | omega | (dsimp only; omega)⟩)) (fun v33 P33 h => ?_)
      refine zv_put_r X fp_q402 (zk_tyO _) (fun z => by cases z) dX0_restore_36 h (fun P36 h => ?_)
      refine zv_aload_n X 1 dX0_restore_39 rfl ?_
      refine zv_aload_n X 0 dX0_restore_40 rfl ?_
      refine zv_aload_n X 1 dX0_restore_41 rfl ?_
      refine zv_getf_r X fo_q402 dX0_restore_42 h (fun v42 h => ?_)
      refine zv_getf_r X fo_q195 dX0_restore_45 h (fun v45 h => ?_)
      refine zv_ciR ((zr_Vl X (As := []) (rest := [va_rf (v22), va_rf (some this)]) h (fun a h => wk_J2_size l h) (zk_l1 ⟨_, rfl, cwV 0 X.hts (lw_V q672 q362 q363 q106 q364) rfl rfl rfl ⟨rfl, md_J2_size⟩ ⟨Nat.le_of_ble_eq_true rfl, Nat.le_of_ble_eq_true rfl⟩⟩) rfl rfl (zk_rs (Nat.le_of_ble_eq_true rfl)) dX0_restore_48 ⟨by first | exact Nat.le_of_ble_eq_true rfl | omega | (dsimp only; omega), by first | exact Nat.le_of_ble_eq_true rfl | omega | (dsimp only; omega)⟩)) (fun v48 h => ?_)
      refine zv_ci ((zr_Vl X (As := [va_rf (v22), .int (v48)]) (rest := []) h (fun a h => wk_X0_done l h) (zk_l1 ⟨_, rfl, cwV 2 X.hts (lw_V q677 q679 qs7 q102 q680) rfl rfl rfl ⟨rfl, md_X0_done⟩ ⟨Nat.le_of_ble_eq_true rfl, Nat.le_of_ble_eq_true rfl⟩⟩) rfl rfl (zk_rs (Nat.le_of_ble_eq_true rfl)) dX0_restore_51 ⟨by first | exact Nat.le_of_ble_eq_true rfl | omega | (dsimp only; omega), by first | exact Nat.le_of_ble_eq_true rfl | omega | (dsimp only; omega)⟩)) (fun v51 P51 h => ?_)
      exact zv_iret X rfl (by first | exact Nat.le_of_ble_eq_true rfl | omega | (dsimp only; omega)) (by first | exact Nat.le_of_ble_eq_true rfl | omega | (dsimp only; omega)) dX0_restore_54 h
    · refine zv_bipush X (v := -2) dX0_restore_18 rfl ?_
      exact zv_iret X rfl (by first | exact Nat.le_of_ble_eq_true rfl | omega | (dsimp only; omega)) (by first | exact Nat.le_of_ble_eq_true rfl | omega | (dsimp only; omega)) dX0_restore_20 h
  · refine zv_iconst X (v := -1) dX0_restore_7 rfl ?_
    exact zv_iret X rfl (by first | exact Nat.le_of_ble_eq_true rfl | omega | (dsimp only; omega)) (by first | exact Nat.le_of_ble_eq_true rfl | omega | (dsimp only; omega)) dX0_restore_8 h
theorem kb_X0_tapes_3 {p : Program} {l : Launch} {e : Env} {s : State} {m : MethodId} {args : Array Value} {below : List Frame} {meth : Method} {c : Code} {D : zk_G} {g : zk_M} {b0 : Nat} (X : zk_X p s m args meth c D g b0 cX0_tapes 3 "LandFolio" "tapes" none) {post : zk_H → Prop}  {K3 : Int32 → zk_H → Prop} {a0 : Option Nat} {a1 : Int32} {a2 : Int32} {P : zk_H}   (hK3 : ∀ (u2 : Int32) (U : zk_H), K3 u2 U → zV p l e ({ frames := 0, cells := 0, slots := 0, locals := 0 } : Room) s m args below meth c D b0 3 (0) (0) (MQ below (va_Qv post (zk_B D b0) (zk_A b0)) args s 0 0 (zk_A b0)) U 3 [(0, va_rf (a0)), (1, .int (a1)), (2, .int (u2))] [])  (hh : wb_X0_tapes_3 post a0 a1 K3 a2 P) : zV p l e ({ frames := 0, cells := 0, slots := 0, locals := 0 } : Room) s m args below meth c D b0 3 (0) (0) (MQ below (va_Qv post (zk_B D b0) (zk_A b0)) args s 0 0 (zk_A b0)) P 3 [(0, va_rf (a0)), (1, .int (a1)), (2, .int (a2))] [] := by
  have h := hh
  unfold wb_X0_tapes_3 at h
  refine zv_iload_n X 2 dX0_tapes_3 rfl ?_
  refine zv_if_lt X (tgt := 36) dX0_tapes_4 (by decide) h (fun h => ?_) (fun h => ?_)
  · exact zv_vret X rfl (by first | exact Nat.le_of_ble_eq_true rfl | omega | (dsimp only; omega)) (by first | exact Nat.le_of_ble_eq_true rfl | omega | (dsimp only; omega)) dX0_tapes_36 h
  · refine zv_aload_n X 0 dX0_tapes_7 rfl ?_
    refine zv_getf_r X fo_q406 dX0_tapes_8 h (fun v8 h => ?_)
    refine zv_aload_n X 0 dX0_tapes_11 rfl ?_
    refine zv_getf_i X fo_q408 dX0_tapes_12 h (fun v12 h => ?_)
    refine zv_iload_n X 1 dX0_tapes_15 rfl ?_
    refine zv_iload_n X 2 dX0_tapes_16 rfl ?_
    refine zv_ishr X dX0_tapes_17 ?_
    refine zv_i2b X dX0_tapes_18 ?_
    refine zv_bast X dX0_tapes_19 h (fun P19 h => ?_)
    refine zv_aload_n X 0 dX0_tapes_20 rfl ?_
    refine zv_dup X dX0_tapes_21 (zk_rc _) ?_
    refine zv_getf_i X fo_q408 dX0_tapes_22 h (fun v22 h => ?_)
    refine zv_iconst X (v := 1) dX0_tapes_25 rfl ?_
    refine zv_iadd X dX0_tapes_26 ?_
    refine zv_put_i X fp_q408 (fun z => by cases z) dX0_tapes_27 h (fun P27 h => ?_)
    obtain ⟨v30, e30, h⟩ := zt_e h
    refine zv_iinc X (v := v30) (L' := [(2, .int (v30)), (0, va_rf (a0)), (1, .int (a1))]) 2 dX0_tapes_30 rfl e30 (by decide) rfl ?_
    refine zv_goto X (tgt := 3) dX0_tapes_33 (by decide) ?_
    refine zv_sub (L' := [(0, va_rf (a0)), (1, .int (a1)), (2, .int (v30))]) [1, 2, 0] rfl ?_
    exact hK3 _ _ h
theorem kl_X0_tapes_3 {p : Program} {l : Launch} {e : Env} {s : State} {m : MethodId} {args : Array Value} {below : List Frame} {meth : Method} {c : Code} {D : zk_G} {g : zk_M} {b0 : Nat} (X : zk_X p s m args meth c D g b0 cX0_tapes 3 "LandFolio" "tapes" none) {post : zk_H → Prop}  {a0 : Option Nat} {a1 : Int32}   : ∀ (n : Nat) (a2 : Int32) (P : zk_H), wl_X0_tapes_3 post a0 a1 n a2 P → zV p l e ({ frames := 0, cells := 0, slots := 0, locals := 0 } : Room) s m args below meth c D b0 3 (0) (0) (MQ below (va_Qv post (zk_B D b0) (zk_A b0)) args s 0 0 (zk_A b0)) P 3 [(0, va_rf (a0)), (1, .int (a1)), (2, .int (a2))] [] := by
  intro n
  induction n with
  | zero => intro _ _ h; exact h.elim
  | succ n ih =>
    intro a2 P h
    exact kb_X0_tapes_3 X  (fun u0 u1 h => ih _ _ h)  h
theorem md_X0_tapes : yX0_tapes.cls ≠ "java/lang/invoke/MethodHandle" ∧ yX0_tapes.cls ≠ "java/lang/invoke/VarHandle" ∧ (parseMethodDescriptor yX0_tapes.desc).map (fun d => d.parameters.length) = some 1 := by decide +kernel
theorem wk_X0_tapes (l : Launch) {D : zk_G} {g : zk_M} {b0 : Nat} {post : zk_H → Prop} {this : Nat} {x1 : Int32} {P : zk_H} (hh : wp_X0_tapes post this x1 P) : Met l yX0_tapes (ws_ yX0_tapes cX0_tapes 3 none) ({ frames := 0, cells := 0, slots := 0, locals := 0 } : Room) (va_Pc [.ref this, .int (x1)] (zk_pre D g b0 P)) (va_Qv post (zk_B D b0) (zk_A b0)) 0 0 (zk_A b0) := by
  refine zk_enter "LandFolio" "tapes" rfl rfl (plainFor_of_name (by decide)) [.ref this, .int (x1)] (Nat.le_of_ble_eq_true rfl) ?_
  intro p e s m args below meth c X
  refine zk_at0 (L' := [(0, va_rf (some this)), (1, .int (x1))]) (rfl) ?_
  have h := hh
  unfold wp_X0_tapes at h
  refine zv_bipush X (v := 24) dX0_tapes_0 rfl ?_
  refine zv_istore_n X (i := 2) (L' := [(2, .int (24)), (0, va_rf (some this)), (1, .int (x1))]) dX0_tapes_2 rfl (by decide) rfl ?_
  refine zv_sub (L' := [(0, va_rf (some this)), (1, .int (x1)), (2, .int (24))]) [1, 2, 0] rfl ?_
  obtain ⟨n2, h⟩ := h
  exact kl_X0_tapes_3 X  n2 _ _ h
theorem md_X0_append : yX0_append.cls ≠ "java/lang/invoke/MethodHandle" ∧ yX0_append.cls ≠ "java/lang/invoke/VarHandle" ∧ (parseMethodDescriptor yX0_append.desc).map (fun d => d.parameters.length) = some 5 := by decide +kernel
theorem wk_X0_append (l : Launch) {D : zk_G} {g : zk_M} {b0 : Nat} {post : Int32 → zk_H → Prop} {this : Nat} {x1 : Int32} {x2 : Int32} {x3 : Int32} {x4 : Int32} {x5 : Int32} {P : zk_H} (hh : wp_X0_append post this x1 x2 x3 x4 x5 P) : Met l yX0_append (ws_ yX0_append cX0_append 6 (some Jvm.ClassFile.FieldType.int)) ({ frames := 1, cells := 0, slots := 0, locals := 22 } : Room) (va_Pc [.ref this, .int (x1), .int (x2), .int (x3), .int (x4), .int (x5)] (zk_pre D g b0 P)) (va_Qi post (zk_B D b0) (zk_A b0)) 0 0 (zk_A b0) := by
  refine zk_enter "LandFolio" "append" rfl rfl (plainFor_of_name (by decide)) [.ref this, .int (x1), .int (x2), .int (x3), .int (x4), .int (x5)] (Nat.le_of_ble_eq_true rfl) ?_
  intro p e s m args below meth c X
  refine zk_at0 (L' := [(0, va_rf (some this)), (1, .int (x1)), (2, .int (x2)), (3, .int (x3)), (4, .int (x4)), (5, .int (x5))]) (rfl) ?_
  have h := hh
  unfold wp_X0_append at h
  refine zv_aload_n X 0 dX0_append_0 rfl ?_
  refine zv_getf_i X fo_q408 dX0_append_1 h (fun v1 h => ?_)
  refine zv_bipush X (v := 20) dX0_append_4 rfl ?_
  refine zv_iadd X dX0_append_6 ?_
  refine zv_sipush X (v := 800) dX0_append_7 rfl ?_
  refine zv_icmp_le X (tgt := 15) dX0_append_10 (by decide) h (fun h => ?_) (fun h => ?_)
  · refine zv_aload_n X 0 dX0_append_15 rfl ?_
    refine zv_iload_n X 1 dX0_append_16 rfl ?_
    refine zv_cv ((zr_Vl X (As := [.int (x1)]) (rest := []) h (fun a h => wk_X0_tapes l h) (zk_l1 ⟨_, rfl, cwV 1 X.hts (lw_V q711 q713 qs10 q102 q714) rfl rfl rfl ⟨rfl, md_X0_tapes⟩ ⟨Nat.le_of_ble_eq_true rfl, Nat.le_of_ble_eq_true rfl⟩⟩) rfl rfl (zk_rs (Nat.le_of_ble_eq_true rfl)) dX0_append_17 ⟨by first | exact Nat.le_of_ble_eq_true rfl | omega | (dsimp only; omega), by first | exact Nat.le_of_ble_eq_true rfl | omega | (dsimp only; omega)⟩)) (fun P17 h => ?_)
    refine zv_aload_n X 0 dX0_append_20 rfl ?_
    refine zv_iload_n X 2 dX0_append_21 rfl ?_
    refine zv_cv ((zr_Vl X (As := [.int (x2)]) (rest := []) h (fun a h => wk_X0_tapes l h) (zk_l1 ⟨_, rfl, cwV 1 X.hts (lw_V q711 q713 qs10 q102 q714) rfl rfl rfl ⟨rfl, md_X0_tapes⟩ ⟨Nat.le_of_ble_eq_true rfl, Nat.le_of_ble_eq_true rfl⟩⟩) rfl rfl (zk_rs (Nat.le_of_ble_eq_true rfl)) dX0_append_22 ⟨by first | exact Nat.le_of_ble_eq_true rfl | omega | (dsimp only; omega), by first | exact Nat.le_of_ble_eq_true rfl | omega | (dsimp only; omega)⟩)) (fun P22 h => ?_)
    refine zv_aload_n X 0 dX0_append_25 rfl ?_
    refine zv_iload_n X 3 dX0_append_26 rfl ?_
    refine zv_cv ((zr_Vl X (As := [.int (x3)]) (rest := []) h (fun a h => wk_X0_tapes l h) (zk_l1 ⟨_, rfl, cwV 1 X.hts (lw_V q711 q713 qs10 q102 q714) rfl rfl rfl ⟨rfl, md_X0_tapes⟩ ⟨Nat.le_of_ble_eq_true rfl, Nat.le_of_ble_eq_true rfl⟩⟩) rfl rfl (zk_rs (Nat.le_of_ble_eq_true rfl)) dX0_append_27 ⟨by first | exact Nat.le_of_ble_eq_true rfl | omega | (dsimp only; omega), by first | exact Nat.le_of_ble_eq_true rfl | omega | (dsimp only; omega)⟩)) (fun P27 h => ?_)
    refine zv_aload_n X 0 dX0_append_30 rfl ?_
    refine zv_iload X 4 dX0_append_31 rfl ?_
    refine zv_cv ((zr_Vl X (As := [.int (x4)]) (rest := []) h (fun a h => wk_X0_tapes l h) (zk_l1 ⟨_, rfl, cwV 1 X.hts (lw_V q711 q713 qs10 q102 q714) rfl rfl rfl ⟨rfl, md_X0_tapes⟩ ⟨Nat.le_of_ble_eq_true rfl, Nat.le_of_ble_eq_true rfl⟩⟩) rfl rfl (zk_rs (Nat.le_of_ble_eq_true rfl)) dX0_append_33 ⟨by first | exact Nat.le_of_ble_eq_true rfl | omega | (dsimp only; omega), by first | exact Nat.le_of_ble_eq_true rfl | omega | (dsimp only; omega)⟩)) (fun P33 h => ?_)
    refine zv_aload_n X 0 dX0_append_36 rfl ?_
    refine zv_iload X 5 dX0_append_37 rfl ?_
    refine zv_cv ((zr_Vl X (As := [.int (x5)]) (rest := []) h (fun a h => wk_X0_tapes l h) (zk_l1 ⟨_, rfl, cwV 1 X.hts (lw_V q711 q713 qs10 q102 q714) rfl rfl rfl ⟨rfl, md_X0_tapes⟩ ⟨Nat.le_of_ble_eq_true rfl, Nat.le_of_ble_eq_true rfl⟩⟩) rfl rfl (zk_rs (Nat.le_of_ble_eq_true rfl)) dX0_append_39 ⟨by first | exact Nat.le_of_ble_eq_true rfl | omega | (dsimp only; omega), by first | exact Nat.le_of_ble_eq_true rfl | omega | (dsimp only; omega)⟩)) (fun P39 h => ?_)
    refine zv_aload_n X 0 dX0_append_42 rfl ?_
    refine zv_getf_i X fo_q408 dX0_append_43 h (fun v43 h => ?_)
    exact zv_iret X rfl (by first | exact Nat.le_of_ble_eq_true rfl | omega | (dsimp only; omega)) (by first | exact Nat.le_of_ble_eq_true rfl | omega | (dsimp only; omega)) dX0_append_46 h
  · refine zv_iconst X (v := -1) dX0_append_13 rfl ?_
    exact zv_iret X rfl (by first | exact Nat.le_of_ble_eq_true rfl | omega | (dsimp only; omega)) (by first | exact Nat.le_of_ble_eq_true rfl | omega | (dsimp only; omega)) dX0_append_14 h
theorem md_X0_truncate : yX0_truncate.cls ≠ "java/lang/invoke/MethodHandle" ∧ yX0_truncate.cls ≠ "java/lang/invoke/VarHandle" ∧ (parseMethodDescriptor yX0_truncate.desc).map (fun d => d.parameters.length) = some 1 := by decide +kernel
theorem wk_X0_truncate (l : Launch) {D : zk_G} {g : zk_M} {b0 : Nat} {post : Int32 → zk_H → Prop} {this : Nat} {x1 : Int32} {P : zk_H} (hh : wp_X0_truncate post this x1 P) : Met l yX0_truncate (ws_ yX0_truncate cX0_truncate 2 (some Jvm.ClassFile.FieldType.int)) ({ frames := 1, cells := 0, slots := 0, locals := 22 } : Room) (va_Pc [.ref this, .int (x1)] (zk_pre D g b0 P)) (va_Qi post (zk_B D b0) (zk_A b0)) 0 0 (zk_A b0) := by
  refine zk_enter "LandFolio" "truncate" rfl rfl (plainFor_of_name (by decide)) [.ref this, .int (x1)] (Nat.le_of_ble_eq_true rfl) ?_
  intro p e s m args below meth c X
  refine zk_at0 (L' := [(0, va_rf (some this)), (1, .int (x1))]) (rfl) ?_
  have h := hh
  unfold wp_X0_truncate at h
  refine zv_iload_n X 1 dX0_truncate_0 rfl ?_
  refine zv_iconst X (v := 0) dX0_truncate_1 rfl ?_
  refine zv_aload_n X 0 dX0_truncate_2 rfl ?_
  refine zv_getf_i X fo_q408 dX0_truncate_3 h (fun v3 h => ?_)
  refine zv_ciR ((zr_S X (As := [.int (x1), .int (0), .int (v3)]) (rest := []) (wk_X0_isIn l h) (va_cwS 3 X.hts (lw_S q462 q463 q102 q464) rfl rfl rfl md_X0_isIn ⟨Nat.le_of_ble_eq_true rfl, Nat.le_of_ble_eq_true rfl⟩) rfl rfl (zk_rs (Nat.le_of_ble_eq_true rfl)) dX0_truncate_6 ⟨by first | exact Nat.le_of_ble_eq_true rfl | omega | (dsimp only; omega), by first | exact Nat.le_of_ble_eq_true rfl | omega | (dsimp only; omega)⟩)) (fun v6 h => ?_)
  refine zv_if_ne X (tgt := 14) dX0_truncate_9 (by decide) h (fun h => ?_) (fun h => ?_)
  · refine zv_aload_n X 0 dX0_truncate_14 rfl ?_
    refine zv_dup X dX0_truncate_15 (zk_rc _) ?_
    refine zv_getf_i X fo_q408 dX0_truncate_16 h (fun v16 h => ?_)
    refine zv_iload_n X 1 dX0_truncate_19 rfl ?_
    refine zv_isub X dX0_truncate_20 ?_
    refine zv_put_i X fp_q408 (fun z => by cases z) dX0_truncate_21 h (fun P21 h => ?_)
    refine zv_aload_n X 0 dX0_truncate_24 rfl ?_
    refine zv_getf_i X fo_q408 dX0_truncate_25 h (fun v25 h => ?_)
    exact zv_iret X rfl (by first | exact Nat.le_of_ble_eq_true rfl | omega | (dsimp only; omega)) (by first | exact Nat.le_of_ble_eq_true rfl | omega | (dsimp only; omega)) dX0_truncate_28 h
  · refine zv_iconst X (v := -1) dX0_truncate_12 rfl ?_
    exact zv_iret X rfl (by first | exact Nat.le_of_ble_eq_true rfl | omega | (dsimp only; omega)) (by first | exact Nat.le_of_ble_eq_true rfl | omega | (dsimp only; omega)) dX0_truncate_13 h
theorem md_X0_errorPosition : yX0_errorPosition.cls ≠ "java/lang/invoke/MethodHandle" ∧ yX0_errorPosition.cls ≠ "java/lang/invoke/VarHandle" ∧ (parseMethodDescriptor yX0_errorPosition.desc).map (fun d => d.parameters.length) = some 0 := by decide +kernel
theorem wk_X0_errorPosition (l : Launch) {D : zk_G} {g : zk_M} {b0 : Nat} {post : Int32 → Prop} {this : Nat} {P : zk_H} (hh : wp_X0_errorPosition post this P) : Met l yX0_errorPosition (ws_ yX0_errorPosition cX0_errorPosition 1 (some Jvm.ClassFile.FieldType.int)) ({ frames := 0, cells := 0, slots := 0, locals := 0 } : Room) (va_Pc [.ref this] (zk_pre D g b0 P)) (va_Qi (fun r u => post r ∧ u = P) (zk_B D b0) (zk_A b0)) 0 0 (zk_A b0) := by
  refine zk_enter "LandFolio" "errorPosition" rfl rfl (plainFor_of_name (by decide)) [.ref this] (Nat.le_of_ble_eq_true rfl) ?_
  intro p e s m args below meth c X
  refine zk_at0 (L' := [(0, va_rf (some this))]) (rfl) ?_
  have h := hh
  unfold wp_X0_errorPosition at h
  refine zv_aload_n X 0 dX0_errorPosition_0 rfl ?_
  refine zv_getf_i X fo_q409 dX0_errorPosition_1 h (fun v1 h => ?_)
  exact zv_iret X rfl (by first | exact Nat.le_of_ble_eq_true rfl | omega | (dsimp only; omega)) (by first | exact Nat.le_of_ble_eq_true rfl | omega | (dsimp only; omega)) dX0_errorPosition_4 ⟨h, rfl⟩
theorem kj_X0_kindOf_218 {p : Program} {l : Launch} {e : Env} {s : State} {m : MethodId} {args : Array Value} {below : List Frame} {meth : Method} {c : Code} {D : zk_G} {g : zk_M} {b0 : Nat} (X : zk_X p s m args meth c D g b0 cX0_kindOf 3 "LandFolio" "kindOf" (some Jvm.ClassFile.FieldType.int)) {post : Int32 → zk_H → Prop}  {a0 : Option Nat} {a2 : Int32} {P : zk_H}    (hh : wj_X0_kindOf_218 g post a0 a2 P) : zV p l e ({ frames := 4, cells := 0, slots := 0, locals := 90 } : Room) s m args below meth c D b0 3 (0) (0) (MQ below (va_Qi post (zk_B D b0) (zk_A b0)) args s 0 0 (zk_A b0)) P 218 [(0, va_rf (a0)), (2, .int (a2))] [] := by
  have h := hh
  unfold wj_X0_kindOf_218 at h
  refine zv_iload_n X 1 dX0_kindOf_218 rfl ?_
  by_cases z219_0 : a2 = 0
  · have h := h.1 z219_0
    refine zv_tableIn X (off := 49) (tgt := 268) dX0_kindOf_219 (by rw [z219_0]; decide) (by rw [z219_0]; decide) (by rw [z219_0]; decide) (by decide) ?_
    refine zv_iconst X (v := 1) dX0_kindOf_268 rfl ?_
    refine zv_goto X (tgt := 285) dX0_kindOf_269 (by decide) ?_
    exact zv_iret X rfl (by first | exact Nat.le_of_ble_eq_true rfl | omega | (dsimp only; omega)) (by first | exact Nat.le_of_ble_eq_true rfl | omega | (dsimp only; omega)) dX0_kindOf_285 h
  have h := h.2 z219_0
  by_cases z219_1 : a2 = 1
  · have h := h.1 z219_1
    refine zv_tableIn X (off := 49) (tgt := 268) dX0_kindOf_219 (by rw [z219_1]; decide) (by rw [z219_1]; decide) (by rw [z219_1]; decide) (by decide) ?_
    refine zv_iconst X (v := 1) dX0_kindOf_268 rfl ?_
    refine zv_goto X (tgt := 285) dX0_kindOf_269 (by decide) ?_
    exact zv_iret X rfl (by first | exact Nat.le_of_ble_eq_true rfl | omega | (dsimp only; omega)) (by first | exact Nat.le_of_ble_eq_true rfl | omega | (dsimp only; omega)) dX0_kindOf_285 h
  have h := h.2 z219_1
  by_cases z219_2 : a2 = 2
  · have h := h.1 z219_2
    refine zv_tableIn X (off := 49) (tgt := 268) dX0_kindOf_219 (by rw [z219_2]; decide) (by rw [z219_2]; decide) (by rw [z219_2]; decide) (by decide) ?_
    refine zv_iconst X (v := 1) dX0_kindOf_268 rfl ?_
    refine zv_goto X (tgt := 285) dX0_kindOf_269 (by decide) ?_
    exact zv_iret X rfl (by first | exact Nat.le_of_ble_eq_true rfl | omega | (dsimp only; omega)) (by first | exact Nat.le_of_ble_eq_true rfl | omega | (dsimp only; omega)) dX0_kindOf_285 h
  have h := h.2 z219_2
  by_cases z219_3 : a2 = 3
  · have h := h.1 z219_3
    refine zv_tableIn X (off := 49) (tgt := 268) dX0_kindOf_219 (by rw [z219_3]; decide) (by rw [z219_3]; decide) (by rw [z219_3]; decide) (by decide) ?_
    refine zv_iconst X (v := 1) dX0_kindOf_268 rfl ?_
    refine zv_goto X (tgt := 285) dX0_kindOf_269 (by decide) ?_
    exact zv_iret X rfl (by first | exact Nat.le_of_ble_eq_true rfl | omega | (dsimp only; omega)) (by first | exact Nat.le_of_ble_eq_true rfl | omega | (dsimp only; omega)) dX0_kindOf_285 h
  have h := h.2 z219_3
  by_cases z219_4 : a2 = 4
  · have h := h.1 z219_4
    refine zv_tableIn X (off := 49) (tgt := 268) dX0_kindOf_219 (by rw [z219_4]; decide) (by rw [z219_4]; decide) (by rw [z219_4]; decide) (by decide) ?_
    refine zv_iconst X (v := 1) dX0_kindOf_268 rfl ?_
    refine zv_goto X (tgt := 285) dX0_kindOf_269 (by decide) ?_
    exact zv_iret X rfl (by first | exact Nat.le_of_ble_eq_true rfl | omega | (dsimp only; omega)) (by first | exact Nat.le_of_ble_eq_true rfl | omega | (dsimp only; omega)) dX0_kindOf_285 h
  have h := h.2 z219_4
  by_cases z219_5 : a2 = 5
  · have h := h.1 z219_5
    refine zv_tableIn X (off := 49) (tgt := 268) dX0_kindOf_219 (by rw [z219_5]; decide) (by rw [z219_5]; decide) (by rw [z219_5]; decide) (by decide) ?_
    refine zv_iconst X (v := 1) dX0_kindOf_268 rfl ?_
    refine zv_goto X (tgt := 285) dX0_kindOf_269 (by decide) ?_
    exact zv_iret X rfl (by first | exact Nat.le_of_ble_eq_true rfl | omega | (dsimp only; omega)) (by first | exact Nat.le_of_ble_eq_true rfl | omega | (dsimp only; omega)) dX0_kindOf_285 h
  have h := h.2 z219_5
  by_cases z219_6 : a2 = 6
  · have h := h.1 z219_6
    refine zv_tableIn X (off := 49) (tgt := 268) dX0_kindOf_219 (by rw [z219_6]; decide) (by rw [z219_6]; decide) (by rw [z219_6]; decide) (by decide) ?_
    refine zv_iconst X (v := 1) dX0_kindOf_268 rfl ?_
    refine zv_goto X (tgt := 285) dX0_kindOf_269 (by decide) ?_
    exact zv_iret X rfl (by first | exact Nat.le_of_ble_eq_true rfl | omega | (dsimp only; omega)) (by first | exact Nat.le_of_ble_eq_true rfl | omega | (dsimp only; omega)) dX0_kindOf_285 h
  have h := h.2 z219_6
  by_cases z219_7 : a2 = 7
  · have h := h.1 z219_7
    refine zv_tableIn X (off := 49) (tgt := 268) dX0_kindOf_219 (by rw [z219_7]; decide) (by rw [z219_7]; decide) (by rw [z219_7]; decide) (by decide) ?_
    refine zv_iconst X (v := 1) dX0_kindOf_268 rfl ?_
    refine zv_goto X (tgt := 285) dX0_kindOf_269 (by decide) ?_
    exact zv_iret X rfl (by first | exact Nat.le_of_ble_eq_true rfl | omega | (dsimp only; omega)) (by first | exact Nat.le_of_ble_eq_true rfl | omega | (dsimp only; omega)) dX0_kindOf_285 h
  have h := h.2 z219_7
  by_cases z219_8 : a2 = 8
  · have h := h.1 z219_8
    refine zv_tableIn X (off := 49) (tgt := 268) dX0_kindOf_219 (by rw [z219_8]; decide) (by rw [z219_8]; decide) (by rw [z219_8]; decide) (by decide) ?_
    refine zv_iconst X (v := 1) dX0_kindOf_268 rfl ?_
    refine zv_goto X (tgt := 285) dX0_kindOf_269 (by decide) ?_
    exact zv_iret X rfl (by first | exact Nat.le_of_ble_eq_true rfl | omega | (dsimp only; omega)) (by first | exact Nat.le_of_ble_eq_true rfl | omega | (dsimp only; omega)) dX0_kindOf_285 h
  have h := h.2 z219_8
  have z219_0 := zk_tn (n := 0) (by decide) z219_0
  have z219_1 := zk_tn (n := 1) (by decide) z219_1
  have z219_2 := zk_tn (n := 2) (by decide) z219_2
  have z219_3 := zk_tn (n := 3) (by decide) z219_3
  have z219_4 := zk_tn (n := 4) (by decide) z219_4
  have z219_5 := zk_tn (n := 5) (by decide) z219_5
  have z219_6 := zk_tn (n := 6) (by decide) z219_6
  have z219_7 := zk_tn (n := 7) (by decide) z219_7
  have z219_8 := zk_tn (n := 8) (by decide) z219_8
  refine zv_tableOut X (tgt := 272) dX0_kindOf_219 (by omega) (by decide) ?_
  refine zv_aload_n X 0 dX0_kindOf_272 rfl ?_
  refine zv_ciR ((zr_Vl X (As := []) (rest := []) h (fun a h => wk_J9_length l h) (zk_l1 ⟨_, rfl, cwV 0 X.hts (lw_V q993 q994 q995 q118 q996) rfl rfl rfl ⟨rfl, md_J9_length⟩ ⟨Nat.le_of_ble_eq_true rfl, Nat.le_of_ble_eq_true rfl⟩⟩) rfl rfl (zk_rs (Nat.le_of_ble_eq_true rfl)) dX0_kindOf_273 ⟨by first | exact Nat.le_of_ble_eq_true rfl | omega | (dsimp only; omega), by first | exact Nat.le_of_ble_eq_true rfl | omega | (dsimp only; omega)⟩)) (fun v273 h => ?_)
  refine zv_iconst X (v := 5) dX0_kindOf_276 rfl ?_
  refine zv_icmp_gt X (tgt := 284) dX0_kindOf_277 (by decide) h (fun h => ?_) (fun h => ?_)
  · refine zv_iconst X (v := 5) dX0_kindOf_284 rfl ?_
    exact zv_iret X rfl (by first | exact Nat.le_of_ble_eq_true rfl | omega | (dsimp only; omega)) (by first | exact Nat.le_of_ble_eq_true rfl | omega | (dsimp only; omega)) dX0_kindOf_285 h
  · refine zv_iconst X (v := 2) dX0_kindOf_280 rfl ?_
    refine zv_goto X (tgt := 285) dX0_kindOf_281 (by decide) ?_
    exact zv_iret X rfl (by first | exact Nat.le_of_ble_eq_true rfl | omega | (dsimp only; omega)) (by first | exact Nat.le_of_ble_eq_true rfl | omega | (dsimp only; omega)) dX0_kindOf_285 h
theorem md_X0_kindOf : yX0_kindOf.cls ≠ "java/lang/invoke/MethodHandle" ∧ yX0_kindOf.cls ≠ "java/lang/invoke/VarHandle" ∧ (parseMethodDescriptor yX0_kindOf.desc).map (fun d => d.parameters.length) = some 1 := by decide +kernel
theorem wk_X0_kindOf (l : Launch) {D : zk_G} {g : zk_M} {b0 : Nat} {post : Int32 → zk_H → Prop} {x0 : Option Nat} {P : zk_H} (hh : wp_X0_kindOf g post x0 P) : Met l yX0_kindOf (ws_ yX0_kindOf cX0_kindOf 3 (some Jvm.ClassFile.FieldType.int)) ({ frames := 4, cells := 0, slots := 0, locals := 90 } : Room) (va_Pc [va_rf (x0)] (zk_pre D g b0 P)) (va_Qi post (zk_B D b0) (zk_A b0)) 0 0 (zk_A b0) := by
  refine zk_enter "LandFolio" "kindOf" rfl rfl (plainFor_of_name (by decide)) [va_rf (x0)] (by cases x0 <;> exact Nat.le_of_ble_eq_true rfl) ?_
  intro p e s m args below meth c X
  refine zk_at0 (L' := [(0, va_rf (x0))]) (by cases x0 <;> rfl) ?_
  have h := hh
  unfold wp_X0_kindOf at h
  refine zv_aload_n X 0 dX0_kindOf_0 rfl ?_
  refine zv_astore_n X (i := 1) (L' := [(1, va_rf (x0)), (0, va_rf (x0))]) dX0_kindOf_1 rfl (by decide) (by simp [zk_s1, zk_s2, zk_rc, zk_ic, zk_jc]) ?_
  refine zv_iconst X (v := -1) dX0_kindOf_2 rfl ?_
  refine zv_istore_n X (i := 2) (L' := [(2, .int (-1)), (1, va_rf (x0)), (0, va_rf (x0))]) dX0_kindOf_3 rfl (by decide) (by simp [zk_s1, zk_s2, zk_rc, zk_ic, zk_jc]) ?_
  refine zv_aload_n X 1 dX0_kindOf_4 rfl ?_
  refine zv_ci ((zr_Vl X (As := []) (rest := []) h (fun a h => wk_J9_hashCode l h) (zk_l1 ⟨_, rfl, cwV 0 X.hts (lw_V q923 q924 q925 q118 q926) rfl rfl rfl ⟨rfl, md_J9_hashCode⟩ ⟨Nat.le_of_ble_eq_true rfl, Nat.le_of_ble_eq_true rfl⟩⟩) rfl rfl (zk_rs (Nat.le_of_ble_eq_true rfl)) dX0_kindOf_5 ⟨by first | exact Nat.le_of_ble_eq_true rfl | omega | (dsimp only; omega), by first | exact Nat.le_of_ble_eq_true rfl | omega | (dsimp only; omega)⟩)) (fun v5 P5 h => ?_)
  by_cases z8_0 : v5 = 98688
  · have h := h.1 z8_0
    refine zv_lookup X (off := 154) (tgt := 162) dX0_kindOf_8 (by decide) (by rw [z8_0]; decide) (by decide) ?_
    refine zv_aload_n X 1 dX0_kindOf_162 rfl ?_
    refine zv_ldcS X (i := 7) rfl dX0_kindOf_163 ?_
    refine zv_ciR ((zr_Vl X (As := [va_rf (some (g 7))]) (rest := []) h (fun a h => wk_J9_equals l h) (zk_l1 ⟨_, rfl, cwV 1 X.hts (lw_V q977 q978 q979 q118 q980) rfl rfl rfl ⟨rfl, md_J9_equals⟩ ⟨Nat.le_of_ble_eq_true rfl, Nat.le_of_ble_eq_true rfl⟩⟩) rfl rfl (zk_rs (Nat.le_of_ble_eq_true rfl)) dX0_kindOf_165 ⟨by first | exact Nat.le_of_ble_eq_true rfl | omega | (dsimp only; omega), by first | exact Nat.le_of_ble_eq_true rfl | omega | (dsimp only; omega)⟩)) (fun v165 h => ?_)
    refine zv_if_eq X (tgt := 218) dX0_kindOf_168 (by decide) h (fun h => ?_) (fun h => ?_)
    · refine zv_sub (L' := [(0, va_rf (x0)), (2, .int (-1))]) [2, 0] rfl ?_
      exact kj_X0_kindOf_218 X  h
    · refine zv_iconst X (v := 5) dX0_kindOf_171 rfl ?_
      refine zv_istore_n X (i := 2) (L' := [(2, .int (5)), (1, va_rf (x0)), (0, va_rf (x0))]) dX0_kindOf_172 rfl (by decide) (by simp [zk_s1, zk_s2, zk_rc, zk_ic, zk_jc]) ?_
      refine zv_goto X (tgt := 218) dX0_kindOf_173 (by decide) ?_
      refine zv_sub (L' := [(0, va_rf (x0)), (2, .int (5))]) [2, 0] rfl ?_
      exact kj_X0_kindOf_218 X  h
  have h := h.2 z8_0
  by_cases z8_1 : v5 = 113114
  · have h := h.1 z8_1
    refine zv_lookup X (off := 140) (tgt := 148) dX0_kindOf_8 (by decide) (by rw [z8_1]; decide) (by decide) ?_
    refine zv_aload_n X 1 dX0_kindOf_148 rfl ?_
    refine zv_ldcS X (i := 6) rfl dX0_kindOf_149 ?_
    refine zv_ciR ((zr_Vl X (As := [va_rf (some (g 6))]) (rest := []) h (fun a h => wk_J9_equals l h) (zk_l1 ⟨_, rfl, cwV 1 X.hts (lw_V q977 q978 q979 q118 q980) rfl rfl rfl ⟨rfl, md_J9_equals⟩ ⟨Nat.le_of_ble_eq_true rfl, Nat.le_of_ble_eq_true rfl⟩⟩) rfl rfl (zk_rs (Nat.le_of_ble_eq_true rfl)) dX0_kindOf_151 ⟨by first | exact Nat.le_of_ble_eq_true rfl | omega | (dsimp only; omega), by first | exact Nat.le_of_ble_eq_true rfl | omega | (dsimp only; omega)⟩)) (fun v151 h => ?_)
    refine zv_if_eq X (tgt := 218) dX0_kindOf_154 (by decide) h (fun h => ?_) (fun h => ?_)
    · refine zv_sub (L' := [(0, va_rf (x0)), (2, .int (-1))]) [2, 0] rfl ?_
      exact kj_X0_kindOf_218 X  h
    · refine zv_iconst X (v := 4) dX0_kindOf_157 rfl ?_
      refine zv_istore_n X (i := 2) (L' := [(2, .int (4)), (1, va_rf (x0)), (0, va_rf (x0))]) dX0_kindOf_158 rfl (by decide) (by simp [zk_s1, zk_s2, zk_rc, zk_ic, zk_jc]) ?_
      refine zv_goto X (tgt := 218) dX0_kindOf_159 (by decide) ?_
      refine zv_sub (L' := [(0, va_rf (x0)), (2, .int (4))]) [2, 0] rfl ?_
      exact kj_X0_kindOf_218 X  h
  have h := h.2 z8_1
  by_cases z8_2 : v5 = 3079315
  · have h := h.1 z8_2
    refine zv_lookup X (off := 183) (tgt := 191) dX0_kindOf_8 (by decide) (by rw [z8_2]; decide) (by decide) ?_
    refine zv_aload_n X 1 dX0_kindOf_191 rfl ?_
    refine zv_ldcS X (i := 9) rfl dX0_kindOf_192 ?_
    refine zv_ciR ((zr_Vl X (As := [va_rf (some (g 9))]) (rest := []) h (fun a h => wk_J9_equals l h) (zk_l1 ⟨_, rfl, cwV 1 X.hts (lw_V q977 q978 q979 q118 q980) rfl rfl rfl ⟨rfl, md_J9_equals⟩ ⟨Nat.le_of_ble_eq_true rfl, Nat.le_of_ble_eq_true rfl⟩⟩) rfl rfl (zk_rs (Nat.le_of_ble_eq_true rfl)) dX0_kindOf_194 ⟨by first | exact Nat.le_of_ble_eq_true rfl | omega | (dsimp only; omega), by first | exact Nat.le_of_ble_eq_true rfl | omega | (dsimp only; omega)⟩)) (fun v194 h => ?_)
    refine zv_if_eq X (tgt := 218) dX0_kindOf_197 (by decide) h (fun h => ?_) (fun h => ?_)
    · refine zv_sub (L' := [(0, va_rf (x0)), (2, .int (-1))]) [2, 0] rfl ?_
      exact kj_X0_kindOf_218 X  h
    · refine zv_bipush X (v := 7) dX0_kindOf_200 rfl ?_
      refine zv_istore_n X (i := 2) (L' := [(2, .int (7)), (1, va_rf (x0)), (0, va_rf (x0))]) dX0_kindOf_202 rfl (by decide) (by simp [zk_s1, zk_s2, zk_rc, zk_ic, zk_jc]) ?_
      refine zv_goto X (tgt := 218) dX0_kindOf_203 (by decide) ?_
      refine zv_sub (L' := [(0, va_rf (x0)), (2, .int (7))]) [2, 0] rfl ?_
      exact kj_X0_kindOf_218 X  h
  have h := h.2 z8_2
  by_cases z8_3 : v5 = 3173137
  · have h := h.1 z8_3
    refine zv_lookup X (off := 168) (tgt := 176) dX0_kindOf_8 (by decide) (by rw [z8_3]; decide) (by decide) ?_
    refine zv_aload_n X 1 dX0_kindOf_176 rfl ?_
    refine zv_ldcS X (i := 8) rfl dX0_kindOf_177 ?_
    refine zv_ciR ((zr_Vl X (As := [va_rf (some (g 8))]) (rest := []) h (fun a h => wk_J9_equals l h) (zk_l1 ⟨_, rfl, cwV 1 X.hts (lw_V q977 q978 q979 q118 q980) rfl rfl rfl ⟨rfl, md_J9_equals⟩ ⟨Nat.le_of_ble_eq_true rfl, Nat.le_of_ble_eq_true rfl⟩⟩) rfl rfl (zk_rs (Nat.le_of_ble_eq_true rfl)) dX0_kindOf_179 ⟨by first | exact Nat.le_of_ble_eq_true rfl | omega | (dsimp only; omega), by first | exact Nat.le_of_ble_eq_true rfl | omega | (dsimp only; omega)⟩)) (fun v179 h => ?_)
    refine zv_if_eq X (tgt := 218) dX0_kindOf_182 (by decide) h (fun h => ?_) (fun h => ?_)
    · refine zv_sub (L' := [(0, va_rf (x0)), (2, .int (-1))]) [2, 0] rfl ?_
      exact kj_X0_kindOf_218 X  h
    · refine zv_bipush X (v := 6) dX0_kindOf_185 rfl ?_
      refine zv_istore_n X (i := 2) (L' := [(2, .int (6)), (1, va_rf (x0)), (0, va_rf (x0))]) dX0_kindOf_187 rfl (by decide) (by simp [zk_s1, zk_s2, zk_rc, zk_ic, zk_jc]) ?_
      refine zv_goto X (tgt := 218) dX0_kindOf_188 (by decide) ?_
      refine zv_sub (L' := [(0, va_rf (x0)), (2, .int (6))]) [2, 0] rfl ?_
      exact kj_X0_kindOf_218 X  h
  have h := h.2 z8_3
  by_cases z8_4 : v5 = 3314155
  · have h := h.1 z8_4
    refine zv_lookup X (off := 84) (tgt := 92) dX0_kindOf_8 (by decide) (by rw [z8_4]; decide) (by decide) ?_
    refine zv_aload_n X 1 dX0_kindOf_92 rfl ?_
    refine zv_ldcS X (i := 2) rfl dX0_kindOf_93 ?_
    refine zv_ciR ((zr_Vl X (As := [va_rf (some (g 2))]) (rest := []) h (fun a h => wk_J9_equals l h) (zk_l1 ⟨_, rfl, cwV 1 X.hts (lw_V q977 q978 q979 q118 q980) rfl rfl rfl ⟨rfl, md_J9_equals⟩ ⟨Nat.le_of_ble_eq_true rfl, Nat.le_of_ble_eq_true rfl⟩⟩) rfl rfl (zk_rs (Nat.le_of_ble_eq_true rfl)) dX0_kindOf_95 ⟨by first | exact Nat.le_of_ble_eq_true rfl | omega | (dsimp only; omega), by first | exact Nat.le_of_ble_eq_true rfl | omega | (dsimp only; omega)⟩)) (fun v95 h => ?_)
    refine zv_if_eq X (tgt := 218) dX0_kindOf_98 (by decide) h (fun h => ?_) (fun h => ?_)
    · refine zv_sub (L' := [(0, va_rf (x0)), (2, .int (-1))]) [2, 0] rfl ?_
      exact kj_X0_kindOf_218 X  h
    · refine zv_iconst X (v := 0) dX0_kindOf_101 rfl ?_
      refine zv_istore_n X (i := 2) (L' := [(2, .int (0)), (1, va_rf (x0)), (0, va_rf (x0))]) dX0_kindOf_102 rfl (by decide) (by simp [zk_s1, zk_s2, zk_rc, zk_ic, zk_jc]) ?_
      refine zv_goto X (tgt := 218) dX0_kindOf_103 (by decide) ?_
      refine zv_sub (L' := [(0, va_rf (x0)), (2, .int (0))]) [2, 0] rfl ?_
      exact kj_X0_kindOf_218 X  h
  have h := h.2 z8_4
  by_cases z8_5 : v5 = 3433509
  · have h := h.1 z8_5
    refine zv_lookup X (off := 198) (tgt := 206) dX0_kindOf_8 (by decide) (by rw [z8_5]; decide) (by decide) ?_
    refine zv_aload_n X 1 dX0_kindOf_206 rfl ?_
    refine zv_ldcS X (i := 10) rfl dX0_kindOf_207 ?_
    refine zv_ciR ((zr_Vl X (As := [va_rf (some (g 10))]) (rest := []) h (fun a h => wk_J9_equals l h) (zk_l1 ⟨_, rfl, cwV 1 X.hts (lw_V q977 q978 q979 q118 q980) rfl rfl rfl ⟨rfl, md_J9_equals⟩ ⟨Nat.le_of_ble_eq_true rfl, Nat.le_of_ble_eq_true rfl⟩⟩) rfl rfl (zk_rs (Nat.le_of_ble_eq_true rfl)) dX0_kindOf_209 ⟨by first | exact Nat.le_of_ble_eq_true rfl | omega | (dsimp only; omega), by first | exact Nat.le_of_ble_eq_true rfl | omega | (dsimp only; omega)⟩)) (fun v209 h => ?_)
    refine zv_if_eq X (tgt := 218) dX0_kindOf_212 (by decide) h (fun h => ?_) (fun h => ?_)
    · refine zv_sub (L' := [(0, va_rf (x0)), (2, .int (-1))]) [2, 0] rfl ?_
      exact kj_X0_kindOf_218 X  h
    · refine zv_bipush X (v := 8) dX0_kindOf_215 rfl ?_
      refine zv_istore_n X (i := 2) (L' := [(2, .int (8)), (1, va_rf (x0)), (0, va_rf (x0))]) dX0_kindOf_217 rfl (by decide) (by simp [zk_s1, zk_s2, zk_rc, zk_ic, zk_jc]) ?_
      refine zv_sub (L' := [(0, va_rf (x0)), (2, .int (8))]) [2, 0] rfl ?_
      exact kj_X0_kindOf_218 X  h
  have h := h.2 z8_5
  by_cases z8_6 : v5 = 106164915
  · have h := h.1 z8_6
    refine zv_lookup X (off := 112) (tgt := 120) dX0_kindOf_8 (by decide) (by rw [z8_6]; decide) (by decide) ?_
    refine zv_aload_n X 1 dX0_kindOf_120 rfl ?_
    refine zv_ldcS X (i := 4) rfl dX0_kindOf_121 ?_
    refine zv_ciR ((zr_Vl X (As := [va_rf (some (g 4))]) (rest := []) h (fun a h => wk_J9_equals l h) (zk_l1 ⟨_, rfl, cwV 1 X.hts (lw_V q977 q978 q979 q118 q980) rfl rfl rfl ⟨rfl, md_J9_equals⟩ ⟨Nat.le_of_ble_eq_true rfl, Nat.le_of_ble_eq_true rfl⟩⟩) rfl rfl (zk_rs (Nat.le_of_ble_eq_true rfl)) dX0_kindOf_123 ⟨by first | exact Nat.le_of_ble_eq_true rfl | omega | (dsimp only; omega), by first | exact Nat.le_of_ble_eq_true rfl | omega | (dsimp only; omega)⟩)) (fun v123 h => ?_)
    refine zv_if_eq X (tgt := 218) dX0_kindOf_126 (by decide) h (fun h => ?_) (fun h => ?_)
    · refine zv_sub (L' := [(0, va_rf (x0)), (2, .int (-1))]) [2, 0] rfl ?_
      exact kj_X0_kindOf_218 X  h
    · refine zv_iconst X (v := 2) dX0_kindOf_129 rfl ?_
      refine zv_istore_n X (i := 2) (L' := [(2, .int (2)), (1, va_rf (x0)), (0, va_rf (x0))]) dX0_kindOf_130 rfl (by decide) (by simp [zk_s1, zk_s2, zk_rc, zk_ic, zk_jc]) ?_
      refine zv_goto X (tgt := 218) dX0_kindOf_131 (by decide) ?_
      refine zv_sub (L' := [(0, va_rf (x0)), (2, .int (2))]) [2, 0] rfl ?_
      exact kj_X0_kindOf_218 X  h
  have h := h.2 z8_6
  by_cases z8_7 : v5 = 106934601
  · have h := h.1 z8_7
    refine zv_lookup X (off := 98) (tgt := 106) dX0_kindOf_8 (by decide) (by rw [z8_7]; decide) (by decide) ?_
    refine zv_aload_n X 1 dX0_kindOf_106 rfl ?_
    refine zv_ldcS X (i := 3) rfl dX0_kindOf_107 ?_
    refine zv_ciR ((zr_Vl X (As := [va_rf (some (g 3))]) (rest := []) h (fun a h => wk_J9_equals l h) (zk_l1 ⟨_, rfl, cwV 1 X.hts (lw_V q977 q978 q979 q118 q980) rfl rfl rfl ⟨rfl, md_J9_equals⟩ ⟨Nat.le_of_ble_eq_true rfl, Nat.le_of_ble_eq_true rfl⟩⟩) rfl rfl (zk_rs (Nat.le_of_ble_eq_true rfl)) dX0_kindOf_109 ⟨by first | exact Nat.le_of_ble_eq_true rfl | omega | (dsimp only; omega), by first | exact Nat.le_of_ble_eq_true rfl | omega | (dsimp only; omega)⟩)) (fun v109 h => ?_)
    refine zv_if_eq X (tgt := 218) dX0_kindOf_112 (by decide) h (fun h => ?_) (fun h => ?_)
    · refine zv_sub (L' := [(0, va_rf (x0)), (2, .int (-1))]) [2, 0] rfl ?_
      exact kj_X0_kindOf_218 X  h
    · refine zv_iconst X (v := 1) dX0_kindOf_115 rfl ?_
      refine zv_istore_n X (i := 2) (L' := [(2, .int (1)), (1, va_rf (x0)), (0, va_rf (x0))]) dX0_kindOf_116 rfl (by decide) (by simp [zk_s1, zk_s2, zk_rc, zk_ic, zk_jc]) ?_
      refine zv_goto X (tgt := 218) dX0_kindOf_117 (by decide) ?_
      refine zv_sub (L' := [(0, va_rf (x0)), (2, .int (1))]) [2, 0] rfl ?_
      exact kj_X0_kindOf_218 X  h
  have h := h.2 z8_7
  by_cases z8_8 : v5 = 109648666
  · have h := h.1 z8_8
    refine zv_lookup X (off := 126) (tgt := 134) dX0_kindOf_8 (by decide) (by rw [z8_8]; decide) (by decide) ?_
    refine zv_aload_n X 1 dX0_kindOf_134 rfl ?_
    refine zv_ldcS X (i := 5) rfl dX0_kindOf_135 ?_
    refine zv_ciR ((zr_Vl X (As := [va_rf (some (g 5))]) (rest := []) h (fun a h => wk_J9_equals l h) (zk_l1 ⟨_, rfl, cwV 1 X.hts (lw_V q977 q978 q979 q118 q980) rfl rfl rfl ⟨rfl, md_J9_equals⟩ ⟨Nat.le_of_ble_eq_true rfl, Nat.le_of_ble_eq_true rfl⟩⟩) rfl rfl (zk_rs (Nat.le_of_ble_eq_true rfl)) dX0_kindOf_137 ⟨by first | exact Nat.le_of_ble_eq_true rfl | omega | (dsimp only; omega), by first | exact Nat.le_of_ble_eq_true rfl | omega | (dsimp only; omega)⟩)) (fun v137 h => ?_)
    refine zv_if_eq X (tgt := 218) dX0_kindOf_140 (by decide) h (fun h => ?_) (fun h => ?_)
    · refine zv_sub (L' := [(0, va_rf (x0)), (2, .int (-1))]) [2, 0] rfl ?_
      exact kj_X0_kindOf_218 X  h
    · refine zv_iconst X (v := 3) dX0_kindOf_143 rfl ?_
      refine zv_istore_n X (i := 2) (L' := [(2, .int (3)), (1, va_rf (x0)), (0, va_rf (x0))]) dX0_kindOf_144 rfl (by decide) (by simp [zk_s1, zk_s2, zk_rc, zk_ic, zk_jc]) ?_
      refine zv_goto X (tgt := 218) dX0_kindOf_145 (by decide) ?_
      refine zv_sub (L' := [(0, va_rf (x0)), (2, .int (3))]) [2, 0] rfl ?_
      exact kj_X0_kindOf_218 X  h
  have h := h.2 z8_8
  have z8_0 := zk_tn (n := 98688) (by decide) z8_0
  have z8_1 := zk_tn (n := 113114) (by decide) z8_1
  have z8_2 := zk_tn (n := 3079315) (by decide) z8_2
  have z8_3 := zk_tn (n := 3173137) (by decide) z8_3
  have z8_4 := zk_tn (n := 3314155) (by decide) z8_4
  have z8_5 := zk_tn (n := 3433509) (by decide) z8_5
  have z8_6 := zk_tn (n := 106164915) (by decide) z8_6
  have z8_7 := zk_tn (n := 106934601) (by decide) z8_7
  have z8_8 := zk_tn (n := 109648666) (by decide) z8_8
  refine zv_lookup X (off := 210) (tgt := 218) dX0_kindOf_8 (by decide) (zk_look (by simp only [List.mem_cons, List.not_mem_nil, or_false, forall_eq_or_imp, forall_eq]; omega)) (by decide) ?_
  refine zv_sub (L' := [(0, va_rf (x0)), (2, .int (-1))]) [2, 0] rfl ?_
  exact kj_X0_kindOf_218 X  h
theorem kj_X0_parts_18 {p : Program} {l : Launch} {e : Env} {s : State} {m : MethodId} {args : Array Value} {below : List Frame} {meth : Method} {c : Code} {D : zk_G} {g : zk_M} {b0 : Nat} (X : zk_X p s m args meth c D g b0 cX0_parts 3 "LandFolio" "parts" (some Jvm.ClassFile.FieldType.boolean)) {post : Int32 → Prop}  {s0 : Int32} {s1 : Int32} {s2 : Int32} {P : zk_H}    (hh : wj_X0_parts_18 post s0 s1 s2 P) : zV p l e ({ frames := 1, cells := 0, slots := 0, locals := 22 } : Room) s m args below meth c D b0 3 (0) (0) (MQ below (va_Qi (fun r u => post r ∧ u = P) (zk_B D b0) (zk_A b0)) args s 0 0 (zk_A b0)) P 18 [] [.int (s0), .int (s1), .int (s2)] := by
  have h := hh
  unfold wj_X0_parts_18 at h
  refine zv_iconst X (v := 1) dX0_parts_18 rfl ?_
  refine zv_isub X dX0_parts_19 ?_
  refine zv_ciR ((zr_S X (As := [.int (s2), .int (s1), .int (s0 - 1)]) (rest := []) (wk_X0_isIn l h) (va_cwS 3 X.hts (lw_S q462 q463 q102 q464) rfl rfl rfl md_X0_isIn ⟨Nat.le_of_ble_eq_true rfl, Nat.le_of_ble_eq_true rfl⟩) rfl rfl (zk_rs (Nat.le_of_ble_eq_true rfl)) dX0_parts_20 ⟨by first | exact Nat.le_of_ble_eq_true rfl | omega | (dsimp only; omega), by first | exact Nat.le_of_ble_eq_true rfl | omega | (dsimp only; omega)⟩)) (fun v20 h => ?_)
  obtain ⟨hb, h⟩ := h
  exact zv_zret X (ty := .boolean) rfl (by first | exact Nat.le_of_ble_eq_true rfl | omega | (dsimp only; omega)) (by first | exact Nat.le_of_ble_eq_true rfl | omega | (dsimp only; omega)) dX0_parts_23 ⟨hb, ⟨h, rfl⟩⟩
theorem md_X0_parts : yX0_parts.cls ≠ "java/lang/invoke/MethodHandle" ∧ yX0_parts.cls ≠ "java/lang/invoke/VarHandle" ∧ (parseMethodDescriptor yX0_parts.desc).map (fun d => d.parameters.length) = some 3 := by decide +kernel
theorem wk_X0_parts (l : Launch) {D : zk_G} {g : zk_M} {b0 : Nat} {post : Int32 → Prop} {x0 : Option Nat} {x1 : Int32} {x2 : Int32} {P : zk_H} (hh : wp_X0_parts post x0 x1 x2 P) : Met l yX0_parts (ws_ yX0_parts cX0_parts 3 (some Jvm.ClassFile.FieldType.boolean)) ({ frames := 1, cells := 0, slots := 0, locals := 22 } : Room) (va_Pc [va_rf (x0), .int (x1), .int (x2)] (zk_pre D g b0 P)) (va_Qi (fun r u => post r ∧ u = P) (zk_B D b0) (zk_A b0)) 0 0 (zk_A b0) := by
  refine zk_enter "LandFolio" "parts" rfl rfl (plainFor_of_name (by decide)) [va_rf (x0), .int (x1), .int (x2)] (by cases x0 <;> exact Nat.le_of_ble_eq_true rfl) ?_
  intro p e s m args below meth c X
  refine zk_at0 (L' := [(0, va_rf (x0)), (1, .int (x1)), (2, .int (x2))]) (by cases x0 <;> rfl) ?_
  have h := hh
  unfold wp_X0_parts at h
  refine zv_iload_n X 2 dX0_parts_0 rfl ?_
  refine zv_iconst X (v := 1) dX0_parts_1 rfl ?_
  refine zv_iload_n X 1 dX0_parts_2 rfl ?_
  refine zv_iconst X (v := 1) dX0_parts_3 rfl ?_
  refine zv_icmp_ne X (tgt := 14) dX0_parts_4 (by decide) h (fun h => ?_) (fun h => ?_)
  · refine zv_aload_n X 0 dX0_parts_14 rfl ?_
    refine zv_getf_i X fo_q314 dX0_parts_15 h (fun v15 h => ?_)
    refine zv_sub (L' := []) [] rfl ?_
    exact kj_X0_parts_18 X  h
  · refine zv_aload_n X 0 dX0_parts_7 rfl ?_
    refine zv_getf_i X fo_q318 dX0_parts_8 h (fun v8 h => ?_)
    refine zv_goto X (tgt := 18) dX0_parts_11 (by decide) ?_
    refine zv_sub (L' := []) [] rfl ?_
    exact kj_X0_parts_18 X  h
theorem kj_X0_newName_99 {p : Program} {l : Launch} {e : Env} {s : State} {m : MethodId} {args : Array Value} {below : List Frame} {meth : Method} {c : Code} {D : zk_G} {g : zk_M} {b0 : Nat} (X : zk_X p s m args meth c D g b0 cX0_newName 4 "LandFolio" "newName" (some (Jvm.ClassFile.FieldType.object "java/lang/String"))) {post : Option Nat → zk_H → Prop}   {P : zk_H}    (hh : wj_X0_newName_99 g post P) : zV p l e ({ frames := 6, cells := 4, slots := 144, locals := 151 } : Room) s m args below meth c D b0 4 (4) (144) (MQ below (va_Qq post (zk_B D b0) (zk_A b0)) args s 4 144 (zk_A b0)) P 99 [] [] := by
  have h := hh
  unfold wj_X0_newName_99 at h
  refine zv_null X dX0_newName_99 ?_
  exact zv_aret X rfl (Or.inl ⟨_, rfl⟩) (by first | exact Nat.le_of_ble_eq_true rfl | omega | (dsimp only; omega)) (by first | exact Nat.le_of_ble_eq_true rfl | omega | (dsimp only; omega)) dX0_newName_100 h
theorem kj_X0_newName_64 {p : Program} {l : Launch} {e : Env} {s : State} {m : MethodId} {args : Array Value} {below : List Frame} {meth : Method} {c : Code} {D : zk_G} {g : zk_M} {b0 : Nat} (X : zk_X p s m args meth c D g b0 cX0_newName 4 "LandFolio" "newName" (some (Jvm.ClassFile.FieldType.object "java/lang/String"))) {post : Option Nat → zk_H → Prop}  {a0 : Option Nat} {a1 : Option Nat} {a2 : Int32} {P : zk_H}    (hh : wj_X0_newName_64 g post a0 a1 a2 P) : zV p l e ({ frames := 6, cells := 4, slots := 144, locals := 151 } : Room) s m args below meth c D b0 4 (2) (132) (MQ below (va_Qq post (zk_B D b0) (zk_A b0)) args s 4 144 (zk_A b0)) P 64 [(0, va_rf (a0)), (1, va_rf (a1)), (2, .int (a2))] [] := by
  have h := hh
  unfold wj_X0_newName_64 at h
  refine zv_aload_n X 1 dX0_newName_64 rfl ?_
  refine zv_cq ((zr_Vl X (As := []) (rest := []) h (fun a h => wk_J8_toString l h) (zk_l1 ⟨_, rfl, cwV 0 X.hts (lw_V q1315 q865 q866 q117 q867) rfl rfl rfl ⟨rfl, md_J8_toString⟩ ⟨Nat.le_of_ble_eq_true rfl, Nat.le_of_ble_eq_true rfl⟩⟩) rfl rfl (zk_rs (Nat.le_of_ble_eq_true rfl)) dX0_newName_65 ⟨by first | exact Nat.le_of_ble_eq_true rfl | omega | (dsimp only; omega), by first | exact Nat.le_of_ble_eq_true rfl | omega | (dsimp only; omega)⟩)) (fun v65 P65 h => ?_)
  refine zv_astore_n X (i := 3) (L' := [(3, va_rf (v65)), (0, va_rf (a0)), (1, va_rf (a1)), (2, .int (a2))]) dX0_newName_68 rfl (by decide) rfl ?_
  refine zv_iload_n X 3 dX0_newName_69 rfl ?_
  refine zv_if_eq X (tgt := 99) dX0_newName_70 (by decide) h (fun h => ?_) (fun h => ?_)
  · refine zv_sub (L' := []) [] rfl ?_
    refine zv_widen (c2 := 4) (s2 := 144) (by first | exact Nat.le_of_ble_eq_true rfl | omega | (dsimp only; omega)) (by first | exact Nat.le_of_ble_eq_true rfl | omega | (dsimp only; omega)) ?_
    exact kj_X0_newName_99 X  h
  · refine zv_aload_n X 0 dX0_newName_73 rfl ?_
    refine zv_ci ((zr_S X (As := [va_rf (v65)]) (rest := []) (wk_X0_kindOf l h) (va_cwS 1 X.hts (lw_S q1316 q921 q102 q922) rfl rfl rfl md_X0_kindOf ⟨Nat.le_of_ble_eq_true rfl, Nat.le_of_ble_eq_true rfl⟩) rfl rfl (zk_rs (Nat.le_of_ble_eq_true rfl)) dX0_newName_74 ⟨by first | exact Nat.le_of_ble_eq_true rfl | omega | (dsimp only; omega), by first | exact Nat.le_of_ble_eq_true rfl | omega | (dsimp only; omega)⟩)) (fun v74 P74 h => ?_)
    refine zv_iconst X (v := 2) dX0_newName_77 rfl ?_
    refine zv_icmp_ne X (tgt := 99) dX0_newName_78 (by decide) h (fun h => ?_) (fun h => ?_)
    · refine zv_sub (L' := []) [] rfl ?_
      refine zv_widen (c2 := 4) (s2 := 144) (by first | exact Nat.le_of_ble_eq_true rfl | omega | (dsimp only; omega)) (by first | exact Nat.le_of_ble_eq_true rfl | omega | (dsimp only; omega)) ?_
      exact kj_X0_newName_99 X  h
    · refine zv_aload_n X 1 dX0_newName_81 rfl ?_
      refine zv_getf_r X fo_q402 dX0_newName_82 h (fun v82 h => ?_)
      refine zv_getf_r X fo_q192 dX0_newName_85 h (fun v85 h => ?_)
      refine zv_aload_n X 0 dX0_newName_88 rfl ?_
      refine zv_ciR ((zr_Vl X (As := [va_rf (v65)]) (rest := []) h (fun a h => wk_J2_contains l h) (zk_l1 ⟨_, rfl, cwV 1 X.hts (lw_V q1317 q1123 q1124 q106 q1125) rfl rfl rfl ⟨rfl, md_J2_contains⟩ ⟨Nat.le_of_ble_eq_true rfl, Nat.le_of_ble_eq_true rfl⟩⟩) rfl rfl (zk_rs (Nat.le_of_ble_eq_true rfl)) dX0_newName_89 ⟨by first | exact Nat.le_of_ble_eq_true rfl | omega | (dsimp only; omega), by first | exact Nat.le_of_ble_eq_true rfl | omega | (dsimp only; omega)⟩)) (fun v89 h => ?_)
      refine zv_if_ne X (tgt := 99) dX0_newName_92 (by decide) h (fun h => ?_) (fun h => ?_)
      · refine zv_sub (L' := []) [] rfl ?_
        refine zv_widen (c2 := 4) (s2 := 144) (by first | exact Nat.le_of_ble_eq_true rfl | omega | (dsimp only; omega)) (by first | exact Nat.le_of_ble_eq_true rfl | omega | (dsimp only; omega)) ?_
        exact kj_X0_newName_99 X  h
      · refine zv_aload_n X 0 dX0_newName_95 rfl ?_
        refine zv_goto X (tgt := 100) dX0_newName_96 (by decide) ?_
        exact zv_aret X rfl (Or.inl ⟨_, rfl⟩) (by first | exact Nat.le_of_ble_eq_true rfl | omega | (dsimp only; omega)) (by first | exact Nat.le_of_ble_eq_true rfl | omega | (dsimp only; omega)) dX0_newName_100 h
theorem kb_X0_newName_20 {p : Program} {l : Launch} {e : Env} {s : State} {m : MethodId} {args : Array Value} {below : List Frame} {meth : Method} {c : Code} {D : zk_G} {g : zk_M} {b0 : Nat} (X : zk_X p s m args meth c D g b0 cX0_newName 4 "LandFolio" "newName" (some (Jvm.ClassFile.FieldType.object "java/lang/String"))) {post : Option Nat → zk_H → Prop}  {K20 : Int32 → Int32 → zk_H → Prop} {a0 : Option Nat} {a1 : Option Nat} {a2 : Int32} {a3 : Int32} {P : zk_H}   (hK20 : ∀ (u2 : Int32) (u3 : Int32) (U : zk_H), K20 u2 u3 U → zV p l e ({ frames := 6, cells := 4, slots := 144, locals := 151 } : Room) s m args below meth c D b0 4 (2) (132) (MQ below (va_Qq post (zk_B D b0) (zk_A b0)) args s 4 144 (zk_A b0)) U 20 [(0, va_rf (a0)), (1, va_rf (a1)), (2, .int (u2)), (3, .int (u3))] [])  (hh : wb_X0_newName_20 g post a0 a1 K20 a2 a3 P) : zV p l e ({ frames := 6, cells := 4, slots := 144, locals := 151 } : Room) s m args below meth c D b0 4 (2) (132) (MQ below (va_Qq post (zk_B D b0) (zk_A b0)) args s 4 144 (zk_A b0)) P 20 [(0, va_rf (a0)), (1, va_rf (a1)), (2, .int (a2)), (3, .int (a3))] [] := by
  have h := hh
  unfold wb_X0_newName_20 at h
  refine zv_iload_n X 3 dX0_newName_20 rfl ?_
  refine zv_aload_n X 0 dX0_newName_21 rfl ?_
  refine zv_getf_i X fo_q408 dX0_newName_22 h (fun v22 h => ?_)
  refine zv_icmp_ge X (tgt := 64) dX0_newName_25 (by decide) h (fun h => ?_) (fun h => ?_)
  · refine zv_sub (L' := [(0, va_rf (a0)), (1, va_rf (a1)), (2, .int (a2))]) [0, 1, 2] rfl ?_
    refine zv_widen (c2 := 2) (s2 := 132) (by first | exact Nat.le_of_ble_eq_true rfl | omega | (dsimp only; omega)) (by first | exact Nat.le_of_ble_eq_true rfl | omega | (dsimp only; omega)) ?_
    exact kj_X0_newName_64 X  h
  · refine zv_iload_n X 2 dX0_newName_28 rfl ?_
    refine zv_if_eq X (tgt := 64) dX0_newName_29 (by decide) h (fun h => ?_) (fun h => ?_)
    · refine zv_sub (L' := [(0, va_rf (a0)), (1, va_rf (a1)), (2, .int (a2))]) [0, 1, 2] rfl ?_
      refine zv_widen (c2 := 2) (s2 := 132) (by first | exact Nat.le_of_ble_eq_true rfl | omega | (dsimp only; omega)) (by first | exact Nat.le_of_ble_eq_true rfl | omega | (dsimp only; omega)) ?_
      exact kj_X0_newName_64 X  h
    · refine zv_aload_n X 0 dX0_newName_32 rfl ?_
      refine zv_getf_r X fo_q406 dX0_newName_33 h (fun v33 h => ?_)
      refine zv_iload_n X 3 dX0_newName_36 rfl ?_
      refine zv_bald X dX0_newName_37 h (fun v37 h => ?_)
      refine zv_bipush X (v := 97) dX0_newName_38 rfl ?_
      refine zv_bipush X (v := 122) dX0_newName_40 rfl ?_
      refine zv_ciR ((zr_S X (As := [.int (v37), .int (97), .int (122)]) (rest := []) (wk_X0_isIn l h) (va_cwS 3 X.hts (lw_S q462 q463 q102 q464) rfl rfl rfl md_X0_isIn ⟨Nat.le_of_ble_eq_true rfl, Nat.le_of_ble_eq_true rfl⟩) rfl rfl (zk_rs (Nat.le_of_ble_eq_true rfl)) dX0_newName_42 ⟨by first | exact Nat.le_of_ble_eq_true rfl | omega | (dsimp only; omega), by first | exact Nat.le_of_ble_eq_true rfl | omega | (dsimp only; omega)⟩)) (fun v42 h => ?_)
      refine zv_istore_n X (i := 2) (L' := [(2, .int (v42)), (0, va_rf (a0)), (1, va_rf (a1)), (3, .int (a3))]) dX0_newName_45 rfl (by decide) (by simp [zk_s1, zk_s2, zk_rc, zk_ic, zk_jc]) ?_
      refine zv_aload_n X 2 dX0_newName_46 rfl ?_
      refine zv_aload_n X 1 dX0_newName_47 rfl ?_
      refine zv_getf_r X fo_q406 dX0_newName_48 h (fun v48 h => ?_)
      refine zv_iload_n X 3 dX0_newName_51 rfl ?_
      refine zv_bald X dX0_newName_52 h (fun v52 h => ?_)
      refine zv_i2c X dX0_newName_53 ?_
      refine zv_cq ((zr_Vl X (As := [.int ((v52.toUInt32 % 65536).toInt32)]) (rest := []) h (fun a h => wk_J8_append l h) (zk_l1 ⟨_, rfl, cwV 1 X.hts (lw_V q1314 q789 q790 q117 q791) rfl rfl rfl ⟨rfl, md_J8_append⟩ ⟨Nat.le_of_ble_eq_true rfl, Nat.le_of_ble_eq_true rfl⟩⟩) rfl rfl (zk_rs (Nat.le_of_ble_eq_true rfl)) dX0_newName_54 ⟨by first | exact Nat.le_of_ble_eq_true rfl | omega | (dsimp only; omega), by first | exact Nat.le_of_ble_eq_true rfl | omega | (dsimp only; omega)⟩)) (fun v54 P54 h => ?_)
      refine zv_pop X dX0_newName_57 (zk_rc _) ?_
      obtain ⟨v58, e58, h⟩ := zt_e h
      refine zv_iinc X (v := v58) (L' := [(3, .int (v58)), (2, .int (v42)), (0, va_rf (a0)), (1, va_rf (a1))]) 3 dX0_newName_58 rfl e58 (by decide) rfl ?_
      refine zv_goto X (tgt := 20) dX0_newName_61 (by decide) ?_
      refine zv_sub (L' := [(0, va_rf (a0)), (1, va_rf (a1)), (2, .int (v42)), (3, .int (v58))]) [2, 3, 1, 0] rfl ?_
      refine zv_widen (c2 := 2) (s2 := 132) (by first | exact Nat.le_refl _ | omega) (by first | exact Nat.le_refl _ | omega) ?_
      exact hK20 _ _ _ h
theorem kl_X0_newName_20 {p : Program} {l : Launch} {e : Env} {s : State} {m : MethodId} {args : Array Value} {below : List Frame} {meth : Method} {c : Code} {D : zk_G} {g : zk_M} {b0 : Nat} (X : zk_X p s m args meth c D g b0 cX0_newName 4 "LandFolio" "newName" (some (Jvm.ClassFile.FieldType.object "java/lang/String"))) {post : Option Nat → zk_H → Prop}  {a0 : Option Nat} {a1 : Option Nat}   : ∀ (n : Nat) (a2 : Int32) (a3 : Int32) (P : zk_H), wl_X0_newName_20 g post a0 a1 n a2 a3 P → zV p l e ({ frames := 6, cells := 4, slots := 144, locals := 151 } : Room) s m args below meth c D b0 4 (2) (132) (MQ below (va_Qq post (zk_B D b0) (zk_A b0)) args s 4 144 (zk_A b0)) P 20 [(0, va_rf (a0)), (1, va_rf (a1)), (2, .int (a2)), (3, .int (a3))] [] := by
  intro n
  induction n with
  | zero => intro _ _ _ h; exact h.elim
  | succ n ih =>
    intro a2 a3 P h
    exact kb_X0_newName_20 X  (fun u0 u1 u2 h => ih _ _ _ h)  h
theorem md_X0_newName : yX0_newName.cls ≠ "java/lang/invoke/MethodHandle" ∧ yX0_newName.cls ≠ "java/lang/invoke/VarHandle" ∧ (parseMethodDescriptor yX0_newName.desc).map (fun d => d.parameters.length) = some 0 := by decide +kernel
theorem wk_X0_newName (l : Launch) {D : zk_G} {g : zk_M} {b0 : Nat} {post : Option Nat → zk_H → Prop} {this : Nat} {P : zk_H} (hh : wp_X0_newName g post this P) : Met l yX0_newName (ws_ yX0_newName cX0_newName 4 (some (Jvm.ClassFile.FieldType.object "java/lang/String"))) ({ frames := 6, cells := 4, slots := 144, locals := 151 } : Room) (va_Pc [.ref this] (zk_pre D g b0 P)) (va_Qq post (zk_B D b0) (zk_A b0)) 4 144 (zk_A b0) := by
  refine zk_enter "LandFolio" "newName" rfl rfl (plainFor_of_name (by decide)) [.ref this] (Nat.le_of_ble_eq_true rfl) ?_
  intro p e s m args below meth c X
  refine zk_at0 (L' := [(0, va_rf (some this))]) (rfl) ?_
  have h := hh
  unfold wp_X0_newName at h
  refine zv_new X zk_nc14 q1312 (by first | exact Nat.le_of_ble_eq_true rfl | omega | (dsimp only; omega)) (by first | exact Nat.le_of_ble_eq_true rfl | omega | (dsimp only; omega)) dX0_newName_0 h (fun v0 P0 h => ?_)
  refine zv_dup X dX0_newName_3 (zk_rc _) ?_
  refine zv_cv ((zr_I X (As := []) (rest := [va_rf (some v0)]) (wk_J8_init l h) (cwI 0 X.hts (lw_meth q754) rfl rfl rfl (X.w q117) (X.w q1313) (X.w q753) rfl md_J8_init ⟨Nat.le_of_ble_eq_true rfl, Nat.le_of_ble_eq_true rfl⟩) rfl rfl (zk_rs (Nat.le_of_ble_eq_true rfl)) dX0_newName_4 ⟨by first | exact Nat.le_of_ble_eq_true rfl | omega | (dsimp only; omega), by first | exact Nat.le_of_ble_eq_true rfl | omega | (dsimp only; omega)⟩)) (fun P4 h => ?_)
  refine zv_astore_n X (i := 1) (L' := [(1, va_rf (some v0)), (0, va_rf (some this))]) dX0_newName_7 rfl (by decide) rfl ?_
  refine zv_aload_n X 1 dX0_newName_8 rfl ?_
  refine zv_getf_i X fo_q408 dX0_newName_9 h (fun v9 h => ?_)
  refine zv_iconst X (v := 1) dX0_newName_12 rfl ?_
  refine zv_iconst X (v := 5) dX0_newName_13 rfl ?_
  refine zv_ciR ((zr_S X (As := [.int (v9), .int (1), .int (5)]) (rest := []) (wk_X0_isIn l h) (va_cwS 3 X.hts (lw_S q462 q463 q102 q464) rfl rfl rfl md_X0_isIn ⟨Nat.le_of_ble_eq_true rfl, Nat.le_of_ble_eq_true rfl⟩) rfl rfl (zk_rs (Nat.le_of_ble_eq_true rfl)) dX0_newName_14 ⟨by first | exact Nat.le_of_ble_eq_true rfl | omega | (dsimp only; omega), by first | exact Nat.le_of_ble_eq_true rfl | omega | (dsimp only; omega)⟩)) (fun v14 h => ?_)
  refine zv_istore_n X (i := 2) (L' := [(2, .int (v14)), (1, va_rf (some v0)), (0, va_rf (some this))]) dX0_newName_17 rfl (by decide) rfl ?_
  refine zv_iconst X (v := 0) dX0_newName_18 rfl ?_
  refine zv_istore_n X (i := 3) (L' := [(3, .int (0)), (2, .int (v14)), (1, va_rf (some v0)), (0, va_rf (some this))]) dX0_newName_19 rfl (by decide) rfl ?_
  refine zv_sub (L' := [(0, va_rf (some this)), (1, va_rf (some v0)), (2, .int (v14)), (3, .int (0))]) [3, 2, 1, 0] rfl ?_
  obtain ⟨n19, h⟩ := h
  refine zv_widen (c2 := 2) (s2 := 132) (by first | exact Nat.le_refl _ | omega) (by first | exact Nat.le_refl _ | omega) ?_
  exact kl_X0_newName_20 X  n19 _ _ _ h
theorem md_X10_init : yX10_init.cls ≠ "java/lang/invoke/MethodHandle" ∧ yX10_init.cls ≠ "java/lang/invoke/VarHandle" ∧ (parseMethodDescriptor yX10_init.desc).map (fun d => d.parameters.length) = some 3 := by decide +kernel
theorem wk_X10_init (l : Launch) {D : zk_G} {g : zk_M} {b0 : Nat} {post : zk_H → Prop} {this : Nat} {x1 : Int32} {x2 : Int32} {x3 : Int32} {P : zk_H} (hh : wp_X10_init post this x1 x2 x3 P) : Met l yX10_init (ws_ yX10_init cX10_init 4 none) ({ frames := 1, cells := 0, slots := 0, locals := 20 } : Room) (va_Pc [.ref this, .int (x1), .int (x2), .int (x3)] (zk_pre D g b0 P)) (va_Qv post (zk_B D b0) (zk_A b0)) 0 0 (zk_A b0) := by
  refine zk_enter "LandFolio$Entry" "<init>" rfl rfl (plainFor_of_name (by decide)) [.ref this, .int (x1), .int (x2), .int (x3)] (Nat.le_of_ble_eq_true rfl) ?_
  intro p e s m args below meth c X
  refine zk_at0 (L' := [(0, va_rf (some this)), (1, .int (x1)), (2, .int (x2)), (3, .int (x3))]) (rfl) ?_
  have h := hh
  unfold wp_X10_init at h
  refine zv_aload_n X 0 dX10_init_0 rfl ?_
  refine zv_objInit X q1335 dX10_init_1 (by decide) (by decide) (by decide) ?_
  refine zv_aload_n X 0 dX10_init_4 rfl ?_
  refine zv_iload_n X 1 dX10_init_5 rfl ?_
  refine zv_put_i X fp_q1336 (fun _ => rfl) dX10_init_6 h (fun P6 h => ?_)
  refine zv_aload_n X 0 dX10_init_9 rfl ?_
  refine zv_iload_n X 2 dX10_init_10 rfl ?_
  refine zv_put_i X fp_q1337 (fun _ => rfl) dX10_init_11 h (fun P11 h => ?_)
  refine zv_aload_n X 0 dX10_init_14 rfl ?_
  refine zv_iload_n X 3 dX10_init_15 rfl ?_
  refine zv_put_i X fp_q1338 (fun _ => rfl) dX10_init_16 h (fun P16 h => ?_)
  exact zv_vret X rfl (by first | exact Nat.le_of_ble_eq_true rfl | omega | (dsimp only; omega)) (by first | exact Nat.le_of_ble_eq_true rfl | omega | (dsimp only; omega)) dX10_init_19 h
theorem kj_X1_logs_25 {p : Program} {l : Launch} {e : Env} {s : State} {m : MethodId} {args : Array Value} {below : List Frame} {meth : Method} {c : Code} {D : zk_G} {g : zk_M} {b0 : Nat} (X : zk_X p s m args meth c D g b0 cX1_logs 5 "LandFolio$Folio" "logs" none) {post : zk_H → Prop}  {a0 : Option Nat} {a1 : Int32} {a2 : Int32} {a3 : Int32} {P : zk_H}    (hh : wj_X1_logs_25 g post a0 a1 a2 a3 P) : zV p l e ({ frames := 7, cells := 2, slots := 99, locals := 171 } : Room) s m args below meth c D b0 5 (0) (0) (MQ below (va_Qv post (zk_B D b0) (zk_A b0)) args s 2 99 (zk_A b0)) P 25 [(0, va_rf (a0)), (1, .int (a1)), (2, .int (a2)), (3, .int (a3))] [] := by
  have h := hh
  unfold wj_X1_logs_25 at h
  refine zv_aload_n X 0 dX1_logs_25 rfl ?_
  refine zv_getf_r X fo_q203 dX1_logs_26 h (fun v26 h => ?_)
  refine zv_new X zk_nc9 q1330 (by first | exact Nat.le_of_ble_eq_true rfl | omega | (dsimp only; omega)) (by first | exact Nat.le_of_ble_eq_true rfl | omega | (dsimp only; omega)) dX1_logs_29 h (fun v29 P29 h => ?_)
  refine zv_dup X dX1_logs_32 (zk_rc _) ?_
  refine zv_iload_n X 1 dX1_logs_33 rfl ?_
  refine zv_iload_n X 2 dX1_logs_34 rfl ?_
  refine zv_iload_n X 3 dX1_logs_35 rfl ?_
  refine zv_cv ((zr_I X (As := [.int (a1), .int (a2), .int (a3)]) (rest := [va_rf (some v29), va_rf (v26)]) (wk_X10_init l h) (cwI 3 X.hts (lw_meth q1334) rfl rfl rfl (X.w q130) (X.w q1332) (X.w q1333) rfl md_X10_init ⟨Nat.le_of_ble_eq_true rfl, Nat.le_of_ble_eq_true rfl⟩) rfl rfl (zk_rs (Nat.le_of_ble_eq_true rfl)) dX1_logs_36 ⟨by first | exact Nat.le_of_ble_eq_true rfl | omega | (dsimp only; omega), by first | exact Nat.le_of_ble_eq_true rfl | omega | (dsimp only; omega)⟩)) (fun P36 h => ?_)
  refine zv_ci ((zr_Vl X (As := [va_rf (some v29)]) (rest := []) h (fun a h => wk_J2_add l h) (zk_l1 ⟨_, rfl, cwV 1 X.hts (lw_V q358 q226 q227 q106 q228) rfl rfl rfl ⟨rfl, md_J2_add⟩ ⟨Nat.le_of_ble_eq_true rfl, Nat.le_of_ble_eq_true rfl⟩⟩) rfl rfl (zk_rs (Nat.le_of_ble_eq_true rfl)) dX1_logs_39 ⟨by first | exact Nat.le_of_ble_eq_true rfl | omega | (dsimp only; omega), by first | exact Nat.le_of_ble_eq_true rfl | omega | (dsimp only; omega)⟩)) (fun v39 P39 h => ?_)
  refine zv_pop X dX1_logs_42 rfl ?_
  exact zv_vret X rfl (by first | exact Nat.le_of_ble_eq_true rfl | omega | (dsimp only; omega)) (by first | exact Nat.le_of_ble_eq_true rfl | omega | (dsimp only; omega)) dX1_logs_43 h
theorem md_X1_logs : yX1_logs.cls ≠ "java/lang/invoke/MethodHandle" ∧ yX1_logs.cls ≠ "java/lang/invoke/VarHandle" ∧ (parseMethodDescriptor yX1_logs.desc).map (fun d => d.parameters.length) = some 3 := by decide +kernel
theorem wk_X1_logs (l : Launch) {D : zk_G} {g : zk_M} {b0 : Nat} {post : zk_H → Prop} {this : Nat} {x1 : Int32} {x2 : Int32} {x3 : Int32} {P : zk_H} (hh : wp_X1_logs g post this x1 x2 x3 P) : Met l yX1_logs (ws_ yX1_logs cX1_logs 5 none) ({ frames := 7, cells := 2, slots := 99, locals := 171 } : Room) (va_Pc [.ref this, .int (x1), .int (x2), .int (x3)] (zk_pre D g b0 P)) (va_Qv post (zk_B D b0) (zk_A b0)) 2 99 (zk_A b0) := by
  refine zk_enter "LandFolio$Folio" "logs" rfl rfl (plainFor_of_name (by decide)) [.ref this, .int (x1), .int (x2), .int (x3)] (Nat.le_of_ble_eq_true rfl) ?_
  intro p e s m args below meth c X
  refine zk_at0 (L' := [(0, va_rf (some this)), (1, .int (x1)), (2, .int (x2)), (3, .int (x3))]) (rfl) ?_
  have h := hh
  unfold wp_X1_logs at h
  refine zv_aload_n X 0 dX1_logs_0 rfl ?_
  refine zv_getf_r X fo_q203 dX1_logs_1 h (fun v1 h => ?_)
  refine zv_ciR ((zr_Vl X (As := []) (rest := []) h (fun a h => wk_J2_size l h) (zk_l1 ⟨_, rfl, cwV 0 X.hts (lw_V q361 q362 q363 q106 q364) rfl rfl rfl ⟨rfl, md_J2_size⟩ ⟨Nat.le_of_ble_eq_true rfl, Nat.le_of_ble_eq_true rfl⟩⟩) rfl rfl (zk_rs (Nat.le_of_ble_eq_true rfl)) dX1_logs_4 ⟨by first | exact Nat.le_of_ble_eq_true rfl | omega | (dsimp only; omega), by first | exact Nat.le_of_ble_eq_true rfl | omega | (dsimp only; omega)⟩)) (fun v4 h => ?_)
  refine zv_bipush X (v := 40) dX1_logs_7 rfl ?_
  refine zv_icmp_ne X (tgt := 25) dX1_logs_9 (by decide) h (fun h => ?_) (fun h => ?_)
  · refine zv_widen (c2 := 0) (s2 := 0) (by first | exact Nat.le_of_ble_eq_true rfl | omega | (dsimp only; omega)) (by first | exact Nat.le_of_ble_eq_true rfl | omega | (dsimp only; omega)) ?_
    exact kj_X1_logs_25 X  h
  · refine zv_aload_n X 0 dX1_logs_12 rfl ?_
    refine zv_getf_r X fo_q203 dX1_logs_13 h (fun v13 h => ?_)
    refine zv_iconst X (v := 0) dX1_logs_16 rfl ?_
    refine zv_cq ((zr_Vl X (As := [.int (0)]) (rest := []) h (fun a h => wk_J2_remove l h) (zk_l1 ⟨_, rfl, cwV 1 X.hts (lw_V q1322 q1323 q1324 q106 q1325) rfl rfl rfl ⟨rfl, md_J2_remove⟩ ⟨Nat.le_of_ble_eq_true rfl, Nat.le_of_ble_eq_true rfl⟩⟩) rfl rfl (zk_rs (Nat.le_of_ble_eq_true rfl)) dX1_logs_17 ⟨by first | exact Nat.le_of_ble_eq_true rfl | omega | (dsimp only; omega), by first | exact Nat.le_of_ble_eq_true rfl | omega | (dsimp only; omega)⟩)) (fun v17 P17 h => ?_)
    refine zv_cast X zk_cs4 q1330 dX1_logs_20 h (fun h => ?_)
    refine zv_astore X (L' := [(4, va_rf (v17)), (0, va_rf (some this)), (1, .int (x1)), (2, .int (x2)), (3, .int (x3))]) dX1_logs_23 (by decide) rfl ?_
    refine zv_sub (L' := [(0, va_rf (some this)), (1, .int (x1)), (2, .int (x2)), (3, .int (x3))]) [1, 2, 3, 4] rfl ?_
    refine zv_widen (c2 := 0) (s2 := 0) (by first | exact Nat.le_of_ble_eq_true rfl | omega | (dsimp only; omega)) (by first | exact Nat.le_of_ble_eq_true rfl | omega | (dsimp only; omega)) ?_
    exact kj_X1_logs_25 X  h
theorem md_X0_owner : yX0_owner.cls ≠ "java/lang/invoke/MethodHandle" ∧ yX0_owner.cls ≠ "java/lang/invoke/VarHandle" ∧ (parseMethodDescriptor yX0_owner.desc).map (fun d => d.parameters.length) = some 0 := by decide +kernel
theorem wk_X0_owner (l : Launch) {D : zk_G} {g : zk_M} {b0 : Nat} {post : Int32 → zk_H → Prop} {this : Nat} {P : zk_H} (hh : wp_X0_owner g post this P) : Met l yX0_owner (ws_ yX0_owner cX0_owner 3 (some Jvm.ClassFile.FieldType.int)) ({ frames := 8, cells := 185, slots := 7470, locals := 195 } : Room) (va_Pc [.ref this] (zk_pre D g b0 P)) (va_Qi post (zk_B D b0) (zk_A b0)) 185 7470 (zk_A b0) := by
  refine zk_enter "LandFolio" "owner" rfl rfl (plainFor_of_name (by decide)) [.ref this] (Nat.le_of_ble_eq_true rfl) ?_
  intro p e s m args below meth c X
  refine zk_at0 (L' := [(0, va_rf (some this))]) (rfl) ?_
  have h := hh
  unfold wp_X0_owner at h
  refine zv_aload_n X 0 dX0_owner_0 rfl ?_
  refine zv_cq ((zr_Vl X (As := []) (rest := []) h (fun a h => wk_X0_newName l h) (zk_l1 ⟨_, rfl, cwV 0 X.hts (lw_V q1308 q1310 qs29 q102 q1311) rfl rfl rfl ⟨rfl, md_X0_newName⟩ ⟨Nat.le_of_ble_eq_true rfl, Nat.le_of_ble_eq_true rfl⟩⟩) rfl rfl (zk_rs (Nat.le_of_ble_eq_true rfl)) dX0_owner_1 ⟨by first | exact Nat.le_of_ble_eq_true rfl | omega | (dsimp only; omega), by first | exact Nat.le_of_ble_eq_true rfl | omega | (dsimp only; omega)⟩)) (fun v1 P1 h => ?_)
  refine zv_astore_n X (i := 1) (L' := [(1, va_rf (v1)), (0, va_rf (some this))]) dX0_owner_4 rfl (by decide) rfl ?_
  refine zv_aload_n X 0 dX0_owner_5 rfl ?_
  refine zv_ifnonnull X (tgt := 11) dX0_owner_6 (by decide) h (fun h => ?_) (fun h => ?_)
  · refine zv_aload_n X 1 dX0_owner_11 rfl ?_
    refine zv_getf_r X fo_q402 dX0_owner_12 h (fun v12 h => ?_)
    refine zv_getf_r X fo_q192 dX0_owner_15 h (fun v15 h => ?_)
    refine zv_ciR ((zr_Vl X (As := []) (rest := []) h (fun a h => wk_J2_size l h) (zk_l1 ⟨_, rfl, cwV 0 X.hts (lw_V q672 q362 q363 q106 q364) rfl rfl rfl ⟨rfl, md_J2_size⟩ ⟨Nat.le_of_ble_eq_true rfl, Nat.le_of_ble_eq_true rfl⟩⟩) rfl rfl (zk_rs (Nat.le_of_ble_eq_true rfl)) dX0_owner_18 ⟨by first | exact Nat.le_of_ble_eq_true rfl | omega | (dsimp only; omega), by first | exact Nat.le_of_ble_eq_true rfl | omega | (dsimp only; omega)⟩)) (fun v18 h => ?_)
    refine zv_bipush X (v := 6) dX0_owner_21 rfl ?_
    refine zv_icmp_ne X (tgt := 29) dX0_owner_23 (by decide) h (fun h => ?_) (fun h => ?_)
    · refine zv_aload_n X 1 dX0_owner_29 rfl ?_
      refine zv_getf_r X fo_q402 dX0_owner_30 h (fun v30 h => ?_)
      refine zv_cq ((zr_Vl X (As := []) (rest := []) h (fun a h => wk_X1_copied l h) (zk_l1 ⟨_, rfl, cwV 0 X.hts (lw_V q465 q466 q467 q103 q468) rfl rfl rfl ⟨rfl, md_X1_copied⟩ ⟨Nat.le_of_ble_eq_true rfl, Nat.le_of_ble_eq_true rfl⟩⟩) rfl rfl (zk_rs (Nat.le_of_ble_eq_true rfl)) dX0_owner_33 ⟨by first | exact Nat.le_of_ble_eq_true rfl | omega | (dsimp only; omega), by first | exact Nat.le_of_ble_eq_true rfl | omega | (dsimp only; omega)⟩)) (fun v33 P33 h => ?_)
      refine zv_astore_n X (i := 2) (L' := [(2, va_rf (v33)), (1, va_rf (v1)), (0, va_rf (some this))]) dX0_owner_36 rfl (by decide) (by simp [zk_s1, zk_s2, zk_rc, zk_ic, zk_jc]) ?_
      refine zv_aload_n X 2 dX0_owner_37 rfl ?_
      refine zv_iconst X (v := 0) dX0_owner_38 rfl ?_
      refine zv_put_i X fp_q408 (fun z => by cases z) dX0_owner_39 h (fun P39 h => ?_)
      refine zv_aload_n X 2 dX0_owner_42 rfl ?_
      refine zv_getf_r X fo_q402 dX0_owner_43 h (fun v43 h => ?_)
      refine zv_getf_r X fo_q192 dX0_owner_46 h (fun v46 h => ?_)
      refine zv_aload_n X 1 dX0_owner_49 rfl ?_
      refine zv_ci ((zr_Vl X (As := [va_rf (v1)]) (rest := []) h (fun a h => wk_J2_add l h) (zk_l1 ⟨_, rfl, cwV 1 X.hts (lw_V q225 q226 q227 q106 q228) rfl rfl rfl ⟨rfl, md_J2_add⟩ ⟨Nat.le_of_ble_eq_true rfl, Nat.le_of_ble_eq_true rfl⟩⟩) rfl rfl (zk_rs (Nat.le_of_ble_eq_true rfl)) dX0_owner_50 ⟨by first | exact Nat.le_of_ble_eq_true rfl | omega | (dsimp only; omega), by first | exact Nat.le_of_ble_eq_true rfl | omega | (dsimp only; omega)⟩)) (fun v50 P50 h => ?_)
      refine zv_pop X dX0_owner_53 rfl ?_
      refine zv_aload_n X 2 dX0_owner_54 rfl ?_
      refine zv_getf_r X fo_q402 dX0_owner_55 h (fun v55 h => ?_)
      refine zv_iconst X (v := 0) dX0_owner_58 rfl ?_
      refine zv_aload_n X 2 dX0_owner_59 rfl ?_
      refine zv_getf_r X fo_q402 dX0_owner_60 h (fun v60 h => ?_)
      refine zv_getf_r X fo_q192 dX0_owner_63 h (fun v63 h => ?_)
      refine zv_ciR ((zr_Vl X (As := []) (rest := [.int (0), va_rf (v55)]) h (fun a h => wk_J2_size l h) (zk_l1 ⟨_, rfl, cwV 0 X.hts (lw_V q672 q362 q363 q106 q364) rfl rfl rfl ⟨rfl, md_J2_size⟩ ⟨Nat.le_of_ble_eq_true rfl, Nat.le_of_ble_eq_true rfl⟩⟩) rfl rfl (zk_rs (Nat.le_of_ble_eq_true rfl)) dX0_owner_66 ⟨by first | exact Nat.le_of_ble_eq_true rfl | omega | (dsimp only; omega), by first | exact Nat.le_of_ble_eq_true rfl | omega | (dsimp only; omega)⟩)) (fun v66 h => ?_)
      refine zv_iconst X (v := 1) dX0_owner_69 rfl ?_
      refine zv_isub X dX0_owner_70 ?_
      refine zv_aload_n X 1 dX0_owner_71 rfl ?_
      refine zv_ciR ((zr_Vl X (As := []) (rest := [.int (v66 - 1), .int (0), va_rf (v55)]) h (fun a h => wk_J9_length l h) (zk_l1 ⟨_, rfl, cwV 0 X.hts (lw_V q993 q994 q995 q118 q996) rfl rfl rfl ⟨rfl, md_J9_length⟩ ⟨Nat.le_of_ble_eq_true rfl, Nat.le_of_ble_eq_true rfl⟩⟩) rfl rfl (zk_rs (Nat.le_of_ble_eq_true rfl)) dX0_owner_72 ⟨by first | exact Nat.le_of_ble_eq_true rfl | omega | (dsimp only; omega), by first | exact Nat.le_of_ble_eq_true rfl | omega | (dsimp only; omega)⟩)) (fun v72 h => ?_)
      refine zv_cv ((zr_Vl X (As := [.int (0), .int (v66 - 1), .int (v72)]) (rest := []) h (fun a h => wk_X1_logs l h) (zk_l1 ⟨_, rfl, cwV 3 X.hts (lw_V q1318 q1319 q1320 q103 q1321) rfl rfl rfl ⟨rfl, md_X1_logs⟩ ⟨Nat.le_of_ble_eq_true rfl, Nat.le_of_ble_eq_true rfl⟩⟩) rfl rfl (zk_rs (Nat.le_of_ble_eq_true rfl)) dX0_owner_75 ⟨by first | exact Nat.le_of_ble_eq_true rfl | omega | (dsimp only; omega), by first | exact Nat.le_of_ble_eq_true rfl | omega | (dsimp only; omega)⟩)) (fun P75 h => ?_)
      refine zv_aload_n X 2 dX0_owner_78 rfl ?_
      refine zv_aload_n X 0 dX0_owner_79 rfl ?_
      refine zv_aload_n X 2 dX0_owner_80 rfl ?_
      refine zv_getf_r X fo_q402 dX0_owner_81 h (fun v81 h => ?_)
      refine zv_getf_r X fo_q192 dX0_owner_84 h (fun v84 h => ?_)
      refine zv_ciR ((zr_Vl X (As := []) (rest := [va_rf (v33), va_rf (some this)]) h (fun a h => wk_J2_size l h) (zk_l1 ⟨_, rfl, cwV 0 X.hts (lw_V q672 q362 q363 q106 q364) rfl rfl rfl ⟨rfl, md_J2_size⟩ ⟨Nat.le_of_ble_eq_true rfl, Nat.le_of_ble_eq_true rfl⟩⟩) rfl rfl (zk_rs (Nat.le_of_ble_eq_true rfl)) dX0_owner_87 ⟨by first | exact Nat.le_of_ble_eq_true rfl | omega | (dsimp only; omega), by first | exact Nat.le_of_ble_eq_true rfl | omega | (dsimp only; omega)⟩)) (fun v87 h => ?_)
      refine zv_iconst X (v := 1) dX0_owner_90 rfl ?_
      refine zv_isub X dX0_owner_91 ?_
      refine zv_ci ((zr_Vl X (As := [va_rf (v33), .int (v87 - 1)]) (rest := []) h (fun a h => wk_X0_done l h) (zk_l1 ⟨_, rfl, cwV 2 X.hts (lw_V q677 q679 qs7 q102 q680) rfl rfl rfl ⟨rfl, md_X0_done⟩ ⟨Nat.le_of_ble_eq_true rfl, Nat.le_of_ble_eq_true rfl⟩⟩) rfl rfl (zk_rs (Nat.le_of_ble_eq_true rfl)) dX0_owner_92 ⟨by first | exact Nat.le_of_ble_eq_true rfl | omega | (dsimp only; omega), by first | exact Nat.le_of_ble_eq_true rfl | omega | (dsimp only; omega)⟩)) (fun v92 P92 h => ?_)
      exact zv_iret X rfl (by first | exact Nat.le_of_ble_eq_true rfl | omega | (dsimp only; omega)) (by first | exact Nat.le_of_ble_eq_true rfl | omega | (dsimp only; omega)) dX0_owner_95 h
    · refine zv_bipush X (v := -3) dX0_owner_26 rfl ?_
      exact zv_iret X rfl (by first | exact Nat.le_of_ble_eq_true rfl | omega | (dsimp only; omega)) (by first | exact Nat.le_of_ble_eq_true rfl | omega | (dsimp only; omega)) dX0_owner_28 h
  · refine zv_iconst X (v := -1) dX0_owner_9 rfl ?_
    exact zv_iret X rfl (by first | exact Nat.le_of_ble_eq_true rfl | omega | (dsimp only; omega)) (by first | exact Nat.le_of_ble_eq_true rfl | omega | (dsimp only; omega)) dX0_owner_10 h
theorem md_X0_isOwner : yX0_isOwner.cls ≠ "java/lang/invoke/MethodHandle" ∧ yX0_isOwner.cls ≠ "java/lang/invoke/VarHandle" ∧ (parseMethodDescriptor yX0_isOwner.desc).map (fun d => d.parameters.length) = some 1 := by decide +kernel
theorem wk_X0_isOwner (l : Launch) {D : zk_G} {g : zk_M} {b0 : Nat} {post : Int32 → Prop} {this : Nat} {x1 : Int32} {P : zk_H} (hh : wp_X0_isOwner post this x1 P) : Met l yX0_isOwner (ws_ yX0_isOwner cX0_isOwner 2 (some Jvm.ClassFile.FieldType.boolean)) ({ frames := 1, cells := 0, slots := 0, locals := 22 } : Room) (va_Pc [.ref this, .int (x1)] (zk_pre D g b0 P)) (va_Qi (fun r u => post r ∧ u = P) (zk_B D b0) (zk_A b0)) 0 0 (zk_A b0) := by
  refine zk_enter "LandFolio" "isOwner" rfl rfl (plainFor_of_name (by decide)) [.ref this, .int (x1)] (Nat.le_of_ble_eq_true rfl) ?_
  intro p e s m args below meth c X
  refine zk_at0 (L' := [(0, va_rf (some this)), (1, .int (x1))]) (rfl) ?_
  have h := hh
  unfold wp_X0_isOwner at h
  refine zv_iload_n X 1 dX0_isOwner_0 rfl ?_
  refine zv_iconst X (v := 0) dX0_isOwner_1 rfl ?_
  refine zv_aload_n X 0 dX0_isOwner_2 rfl ?_
  refine zv_getf_r X fo_q402 dX0_isOwner_3 h (fun v3 h => ?_)
  refine zv_getf_r X fo_q192 dX0_isOwner_6 h (fun v6 h => ?_)
  refine zv_ciR ((zr_Vl X (As := []) (rest := [.int (0), .int (x1)]) h (fun a h => wk_J2_size l h) (zk_l1 ⟨_, rfl, cwV 0 X.hts (lw_V q672 q362 q363 q106 q364) rfl rfl rfl ⟨rfl, md_J2_size⟩ ⟨Nat.le_of_ble_eq_true rfl, Nat.le_of_ble_eq_true rfl⟩⟩) rfl rfl (zk_rs (Nat.le_of_ble_eq_true rfl)) dX0_isOwner_9 ⟨by first | exact Nat.le_of_ble_eq_true rfl | omega | (dsimp only; omega), by first | exact Nat.le_of_ble_eq_true rfl | omega | (dsimp only; omega)⟩)) (fun v9 h => ?_)
  refine zv_iconst X (v := 1) dX0_isOwner_12 rfl ?_
  refine zv_isub X dX0_isOwner_13 ?_
  refine zv_ciR ((zr_S X (As := [.int (x1), .int (0), .int (v9 - 1)]) (rest := []) (wk_X0_isIn l h) (va_cwS 3 X.hts (lw_S q462 q463 q102 q464) rfl rfl rfl md_X0_isIn ⟨Nat.le_of_ble_eq_true rfl, Nat.le_of_ble_eq_true rfl⟩) rfl rfl (zk_rs (Nat.le_of_ble_eq_true rfl)) dX0_isOwner_14 ⟨by first | exact Nat.le_of_ble_eq_true rfl | omega | (dsimp only; omega), by first | exact Nat.le_of_ble_eq_true rfl | omega | (dsimp only; omega)⟩)) (fun v14 h => ?_)
  obtain ⟨hb, h⟩ := h
  exact zv_zret X (ty := .boolean) rfl (by first | exact Nat.le_of_ble_eq_true rfl | omega | (dsimp only; omega)) (by first | exact Nat.le_of_ble_eq_true rfl | omega | (dsimp only; omega)) dX0_isOwner_17 ⟨hb, ⟨h, rfl⟩⟩
theorem md_X0_rename : yX0_rename.cls ≠ "java/lang/invoke/MethodHandle" ∧ yX0_rename.cls ≠ "java/lang/invoke/VarHandle" ∧ (parseMethodDescriptor yX0_rename.desc).map (fun d => d.parameters.length) = some 1 := by decide +kernel
theorem wk_X0_rename (l : Launch) {D : zk_G} {g : zk_M} {b0 : Nat} {post : Int32 → zk_H → Prop} {this : Nat} {x1 : Int32} {P : zk_H} (hh : wp_X0_rename g post this x1 P) : Met l yX0_rename (ws_ yX0_rename cX0_rename 5 (some Jvm.ClassFile.FieldType.int)) ({ frames := 8, cells := 184, slots := 7374, locals := 195 } : Room) (va_Pc [.ref this, .int (x1)] (zk_pre D g b0 P)) (va_Qi post (zk_B D b0) (zk_A b0)) 184 7374 (zk_A b0) := by
  refine zk_enter "LandFolio" "rename" rfl rfl (plainFor_of_name (by decide)) [.ref this, .int (x1)] (Nat.le_of_ble_eq_true rfl) ?_
  intro p e s m args below meth c X
  refine zk_at0 (L' := [(0, va_rf (some this)), (1, .int (x1))]) (rfl) ?_
  have h := hh
  unfold wp_X0_rename at h
  refine zv_aload_n X 0 dX0_rename_0 rfl ?_
  refine zv_cq ((zr_Vl X (As := []) (rest := []) h (fun a h => wk_X0_newName l h) (zk_l1 ⟨_, rfl, cwV 0 X.hts (lw_V q1308 q1310 qs29 q102 q1311) rfl rfl rfl ⟨rfl, md_X0_newName⟩ ⟨Nat.le_of_ble_eq_true rfl, Nat.le_of_ble_eq_true rfl⟩⟩) rfl rfl (zk_rs (Nat.le_of_ble_eq_true rfl)) dX0_rename_1 ⟨by first | exact Nat.le_of_ble_eq_true rfl | omega | (dsimp only; omega), by first | exact Nat.le_of_ble_eq_true rfl | omega | (dsimp only; omega)⟩)) (fun v1 P1 h => ?_)
  refine zv_astore_n X (i := 2) (L' := [(2, va_rf (v1)), (0, va_rf (some this)), (1, .int (x1))]) dX0_rename_4 rfl (by decide) rfl ?_
  refine zv_aload_n X 1 dX0_rename_5 rfl ?_
  refine zv_iload_n X 2 dX0_rename_6 rfl ?_
  refine zv_ciR ((zr_Vl X (As := [.int (x1)]) (rest := []) h (fun a h => wk_X0_isOwner l h) (zk_l1 ⟨_, rfl, cwV 1 X.hts (lw_V q1350 q1352 qs31 q102 q1353) rfl rfl rfl ⟨rfl, md_X0_isOwner⟩ ⟨Nat.le_of_ble_eq_true rfl, Nat.le_of_ble_eq_true rfl⟩⟩) rfl rfl (zk_rs (Nat.le_of_ble_eq_true rfl)) dX0_rename_7 ⟨by first | exact Nat.le_of_ble_eq_true rfl | omega | (dsimp only; omega), by first | exact Nat.le_of_ble_eq_true rfl | omega | (dsimp only; omega)⟩)) (fun v7 h => ?_)
  refine zv_if_eq X (tgt := 17) dX0_rename_10 (by decide) h (fun h => ?_) (fun h => ?_)
  · refine zv_iconst X (v := -1) dX0_rename_17 rfl ?_
    exact zv_iret X rfl (by first | exact Nat.le_of_ble_eq_true rfl | omega | (dsimp only; omega)) (by first | exact Nat.le_of_ble_eq_true rfl | omega | (dsimp only; omega)) dX0_rename_18 h
  · refine zv_aload_n X 0 dX0_rename_13 rfl ?_
    refine zv_ifnonnull X (tgt := 19) dX0_rename_14 (by decide) h (fun h => ?_) (fun h => ?_)
    · refine zv_aload_n X 1 dX0_rename_19 rfl ?_
      refine zv_getf_r X fo_q402 dX0_rename_20 h (fun v20 h => ?_)
      refine zv_cq ((zr_Vl X (As := []) (rest := []) h (fun a h => wk_X1_copied l h) (zk_l1 ⟨_, rfl, cwV 0 X.hts (lw_V q465 q466 q467 q103 q468) rfl rfl rfl ⟨rfl, md_X1_copied⟩ ⟨Nat.le_of_ble_eq_true rfl, Nat.le_of_ble_eq_true rfl⟩⟩) rfl rfl (zk_rs (Nat.le_of_ble_eq_true rfl)) dX0_rename_23 ⟨by first | exact Nat.le_of_ble_eq_true rfl | omega | (dsimp only; omega), by first | exact Nat.le_of_ble_eq_true rfl | omega | (dsimp only; omega)⟩)) (fun v23 P23 h => ?_)
      refine zv_astore_n X (i := 3) (L' := [(3, va_rf (v23)), (2, va_rf (v1)), (0, va_rf (some this)), (1, .int (x1))]) dX0_rename_26 rfl (by decide) (by simp [zk_s1, zk_s2, zk_rc, zk_ic, zk_jc]) ?_
      refine zv_aload_n X 2 dX0_rename_27 rfl ?_
      refine zv_iconst X (v := 0) dX0_rename_28 rfl ?_
      refine zv_put_i X fp_q408 (fun z => by cases z) dX0_rename_29 h (fun P29 h => ?_)
      refine zv_aload_n X 2 dX0_rename_32 rfl ?_
      refine zv_getf_r X fo_q402 dX0_rename_33 h (fun v33 h => ?_)
      refine zv_getf_r X fo_q192 dX0_rename_36 h (fun v36 h => ?_)
      refine zv_iload_n X 3 dX0_rename_39 rfl ?_
      refine zv_aload_n X 1 dX0_rename_40 rfl ?_
      refine zv_cq ((zr_Vl X (As := [.int (x1), va_rf (v1)]) (rest := []) h (fun a h => wk_J2_set l h) (zk_l1 ⟨_, rfl, cwV 2 X.hts (lw_V q1354 q1267 q1268 q106 q1269) rfl rfl rfl ⟨rfl, md_J2_set⟩ ⟨Nat.le_of_ble_eq_true rfl, Nat.le_of_ble_eq_true rfl⟩⟩) rfl rfl (zk_rs (Nat.le_of_ble_eq_true rfl)) dX0_rename_41 ⟨by first | exact Nat.le_of_ble_eq_true rfl | omega | (dsimp only; omega), by first | exact Nat.le_of_ble_eq_true rfl | omega | (dsimp only; omega)⟩)) (fun v41 P41 h => ?_)
      refine zv_cast X zk_cs3 q1355 dX0_rename_44 h (fun h => ?_)
      refine zv_astore X (L' := [(4, va_rf (v41)), (3, va_rf (v23)), (2, va_rf (v1)), (0, va_rf (some this)), (1, .int (x1))]) dX0_rename_47 (by decide) (by simp [zk_s1, zk_s2, zk_rc, zk_ic, zk_jc]) ?_
      refine zv_aload_n X 3 dX0_rename_49 rfl ?_
      refine zv_getf_r X fo_q402 dX0_rename_50 h (fun v50 h => ?_)
      refine zv_bipush X (v := 12) dX0_rename_53 rfl ?_
      refine zv_iload_n X 4 dX0_rename_55 rfl ?_
      refine zv_aload_n X 2 dX0_rename_56 rfl ?_
      refine zv_ciR ((zr_Vl X (As := []) (rest := [.int (x1), .int (12), va_rf (v50)]) h (fun a h => wk_J9_length l h) (zk_l1 ⟨_, rfl, cwV 0 X.hts (lw_V q993 q994 q995 q118 q996) rfl rfl rfl ⟨rfl, md_J9_length⟩ ⟨Nat.le_of_ble_eq_true rfl, Nat.le_of_ble_eq_true rfl⟩⟩) rfl rfl (zk_rs (Nat.le_of_ble_eq_true rfl)) dX0_rename_57 ⟨by first | exact Nat.le_of_ble_eq_true rfl | omega | (dsimp only; omega), by first | exact Nat.le_of_ble_eq_true rfl | omega | (dsimp only; omega)⟩)) (fun v57 h => ?_)
      refine zv_cv ((zr_Vl X (As := [.int (12), .int (x1), .int (v57)]) (rest := []) h (fun a h => wk_X1_logs l h) (zk_l1 ⟨_, rfl, cwV 3 X.hts (lw_V q1318 q1319 q1320 q103 q1321) rfl rfl rfl ⟨rfl, md_X1_logs⟩ ⟨Nat.le_of_ble_eq_true rfl, Nat.le_of_ble_eq_true rfl⟩⟩) rfl rfl (zk_rs (Nat.le_of_ble_eq_true rfl)) dX0_rename_60 ⟨by first | exact Nat.le_of_ble_eq_true rfl | omega | (dsimp only; omega), by first | exact Nat.le_of_ble_eq_true rfl | omega | (dsimp only; omega)⟩)) (fun P60 h => ?_)
      refine zv_aload_n X 3 dX0_rename_63 rfl ?_
      refine zv_aload_n X 1 dX0_rename_64 rfl ?_
      refine zv_aload_n X 2 dX0_rename_65 rfl ?_
      refine zv_ciR ((zr_Vl X (As := []) (rest := [va_rf (v23), va_rf (some this)]) h (fun a h => wk_J9_length l h) (zk_l1 ⟨_, rfl, cwV 0 X.hts (lw_V q993 q994 q995 q118 q996) rfl rfl rfl ⟨rfl, md_J9_length⟩ ⟨Nat.le_of_ble_eq_true rfl, Nat.le_of_ble_eq_true rfl⟩⟩) rfl rfl (zk_rs (Nat.le_of_ble_eq_true rfl)) dX0_rename_66 ⟨by first | exact Nat.le_of_ble_eq_true rfl | omega | (dsimp only; omega), by first | exact Nat.le_of_ble_eq_true rfl | omega | (dsimp only; omega)⟩)) (fun v66 h => ?_)
      refine zv_ci ((zr_Vl X (As := [va_rf (v23), .int (v66)]) (rest := []) h (fun a h => wk_X0_done l h) (zk_l1 ⟨_, rfl, cwV 2 X.hts (lw_V q677 q679 qs7 q102 q680) rfl rfl rfl ⟨rfl, md_X0_done⟩ ⟨Nat.le_of_ble_eq_true rfl, Nat.le_of_ble_eq_true rfl⟩⟩) rfl rfl (zk_rs (Nat.le_of_ble_eq_true rfl)) dX0_rename_69 ⟨by first | exact Nat.le_of_ble_eq_true rfl | omega | (dsimp only; omega), by first | exact Nat.le_of_ble_eq_true rfl | omega | (dsimp only; omega)⟩)) (fun v69 P69 h => ?_)
      exact zv_iret X rfl (by first | exact Nat.le_of_ble_eq_true rfl | omega | (dsimp only; omega)) (by first | exact Nat.le_of_ble_eq_true rfl | omega | (dsimp only; omega)) dX0_rename_72 h
    · refine zv_iconst X (v := -1) dX0_rename_17 rfl ?_
      exact zv_iret X rfl (by first | exact Nat.le_of_ble_eq_true rfl | omega | (dsimp only; omega)) (by first | exact Nat.le_of_ble_eq_true rfl | omega | (dsimp only; omega)) dX0_rename_18 h
theorem md_X0_isParcel : yX0_isParcel.cls ≠ "java/lang/invoke/MethodHandle" ∧ yX0_isParcel.cls ≠ "java/lang/invoke/VarHandle" ∧ (parseMethodDescriptor yX0_isParcel.desc).map (fun d => d.parameters.length) = some 1 := by decide +kernel
theorem wk_X0_isParcel (l : Launch) {D : zk_G} {g : zk_M} {b0 : Nat} {post : Int32 → Prop} {this : Nat} {x1 : Int32} {P : zk_H} (hh : wp_X0_isParcel post this x1 P) : Met l yX0_isParcel (ws_ yX0_isParcel cX0_isParcel 2 (some Jvm.ClassFile.FieldType.boolean)) ({ frames := 1, cells := 0, slots := 0, locals := 22 } : Room) (va_Pc [.ref this, .int (x1)] (zk_pre D g b0 P)) (va_Qi (fun r u => post r ∧ u = P) (zk_B D b0) (zk_A b0)) 0 0 (zk_A b0) := by
  refine zk_enter "LandFolio" "isParcel" rfl rfl (plainFor_of_name (by decide)) [.ref this, .int (x1)] (Nat.le_of_ble_eq_true rfl) ?_
  intro p e s m args below meth c X
  refine zk_at0 (L' := [(0, va_rf (some this)), (1, .int (x1))]) (rfl) ?_
  have h := hh
  unfold wp_X0_isParcel at h
  refine zv_iload_n X 1 dX0_isParcel_0 rfl ?_
  refine zv_iconst X (v := 0) dX0_isParcel_1 rfl ?_
  refine zv_aload_n X 0 dX0_isParcel_2 rfl ?_
  refine zv_getf_r X fo_q402 dX0_isParcel_3 h (fun v3 h => ?_)
  refine zv_getf_r X fo_q195 dX0_isParcel_6 h (fun v6 h => ?_)
  refine zv_ciR ((zr_Vl X (As := []) (rest := [.int (0), .int (x1)]) h (fun a h => wk_J2_size l h) (zk_l1 ⟨_, rfl, cwV 0 X.hts (lw_V q672 q362 q363 q106 q364) rfl rfl rfl ⟨rfl, md_J2_size⟩ ⟨Nat.le_of_ble_eq_true rfl, Nat.le_of_ble_eq_true rfl⟩⟩) rfl rfl (zk_rs (Nat.le_of_ble_eq_true rfl)) dX0_isParcel_9 ⟨by first | exact Nat.le_of_ble_eq_true rfl | omega | (dsimp only; omega), by first | exact Nat.le_of_ble_eq_true rfl | omega | (dsimp only; omega)⟩)) (fun v9 h => ?_)
  refine zv_iconst X (v := 1) dX0_isParcel_12 rfl ?_
  refine zv_isub X dX0_isParcel_13 ?_
  refine zv_ciR ((zr_S X (As := [.int (x1), .int (0), .int (v9 - 1)]) (rest := []) (wk_X0_isIn l h) (va_cwS 3 X.hts (lw_S q462 q463 q102 q464) rfl rfl rfl md_X0_isIn ⟨Nat.le_of_ble_eq_true rfl, Nat.le_of_ble_eq_true rfl⟩) rfl rfl (zk_rs (Nat.le_of_ble_eq_true rfl)) dX0_isParcel_14 ⟨by first | exact Nat.le_of_ble_eq_true rfl | omega | (dsimp only; omega), by first | exact Nat.le_of_ble_eq_true rfl | omega | (dsimp only; omega)⟩)) (fun v14 h => ?_)
  obtain ⟨hb, h⟩ := h
  exact zv_zret X (ty := .boolean) rfl (by first | exact Nat.le_of_ble_eq_true rfl | omega | (dsimp only; omega)) (by first | exact Nat.le_of_ble_eq_true rfl | omega | (dsimp only; omega)) dX0_isParcel_17 ⟨hb, ⟨h, rfl⟩⟩
theorem md_X0_isFlag : yX0_isFlag.cls ≠ "java/lang/invoke/MethodHandle" ∧ yX0_isFlag.cls ≠ "java/lang/invoke/VarHandle" ∧ (parseMethodDescriptor yX0_isFlag.desc).map (fun d => d.parameters.length) = some 1 := by decide +kernel
theorem wk_X0_isFlag (l : Launch) {D : zk_G} {g : zk_M} {b0 : Nat} {post : Int32 → Prop} {x0 : Int32} {P : zk_H} (hh : wp_X0_isFlag post x0) : Met l yX0_isFlag (ws_ yX0_isFlag cX0_isFlag 1 (some Jvm.ClassFile.FieldType.boolean)) ({ frames := 1, cells := 0, slots := 0, locals := 22 } : Room) (va_Pc [.int (x0)] (zk_pre D g b0 P)) (va_Qi (fun r u => post r ∧ u = P) (zk_B D b0) (zk_A b0)) 0 0 (zk_A b0) := by
  refine zk_enter "LandFolio" "isFlag" rfl rfl (plainFor_of_name (by decide)) [.int (x0)] (Nat.le_of_ble_eq_true rfl) ?_
  intro p e s m args below meth c X
  refine zk_at0 (L' := [(0, .int (x0))]) (rfl) ?_
  have h := hh
  unfold wp_X0_isFlag at h
  refine zv_iload_n X 0 dX0_isFlag_0 rfl ?_
  refine zv_iconst X (v := 0) dX0_isFlag_1 rfl ?_
  refine zv_iconst X (v := 1) dX0_isFlag_2 rfl ?_
  refine zv_ciR ((zr_S X (As := [.int (x0), .int (0), .int (1)]) (rest := []) (wk_X0_isIn l h) (va_cwS 3 X.hts (lw_S q462 q463 q102 q464) rfl rfl rfl md_X0_isIn ⟨Nat.le_of_ble_eq_true rfl, Nat.le_of_ble_eq_true rfl⟩) rfl rfl (zk_rs (Nat.le_of_ble_eq_true rfl)) dX0_isFlag_3 ⟨by first | exact Nat.le_of_ble_eq_true rfl | omega | (dsimp only; omega), by first | exact Nat.le_of_ble_eq_true rfl | omega | (dsimp only; omega)⟩)) (fun v3 h => ?_)
  obtain ⟨hb, h⟩ := h
  exact zv_zret X (ty := .boolean) rfl (by first | exact Nat.le_of_ble_eq_true rfl | omega | (dsimp only; omega)) (by first | exact Nat.le_of_ble_eq_true rfl | omega | (dsimp only; omega)) dX0_isFlag_6 ⟨hb, ⟨h, rfl⟩⟩
theorem md_X0_isSplit : yX0_isSplit.cls ≠ "java/lang/invoke/MethodHandle" ∧ yX0_isSplit.cls ≠ "java/lang/invoke/VarHandle" ∧ (parseMethodDescriptor yX0_isSplit.desc).map (fun d => d.parameters.length) = some 3 := by decide +kernel
theorem wk_X0_isSplit (l : Launch) {D : zk_G} {g : zk_M} {b0 : Nat} {post : Int32 → Prop} {this : Nat} {x1 : Int32} {x2 : Int32} {x3 : Int32} {P : zk_H} (hh : wp_X0_isSplit post this x1 x2 x3 P) : Met l yX0_isSplit (ws_ yX0_isSplit cX0_isSplit 4 (some Jvm.ClassFile.FieldType.boolean)) ({ frames := 4, cells := 0, slots := 0, locals := 85 } : Room) (va_Pc [.ref this, .int (x1), .int (x2), .int (x3)] (zk_pre D g b0 P)) (va_Qi (fun r u => post r ∧ u = P) (zk_B D b0) (zk_A b0)) 0 0 (zk_A b0) := by
  refine zk_enter "LandFolio" "isSplit" rfl rfl (plainFor_of_name (by decide)) [.ref this, .int (x1), .int (x2), .int (x3)] (Nat.le_of_ble_eq_true rfl) ?_
  intro p e s m args below meth c X
  refine zk_at0 (L' := [(0, va_rf (some this)), (1, .int (x1)), (2, .int (x2)), (3, .int (x3))]) (rfl) ?_
  have h := hh
  unfold wp_X0_isSplit at h
  refine zv_aload_n X 0 dX0_isSplit_0 rfl ?_
  refine zv_iload_n X 1 dX0_isSplit_1 rfl ?_
  refine zv_ciR ((zr_Vl X (As := [.int (x1)]) (rest := []) h (fun a h => wk_X0_isParcel l h) (zk_l1 ⟨_, rfl, cwV 1 X.hts (lw_V q1364 q1366 qs33 q102 q1367) rfl rfl rfl ⟨rfl, md_X0_isParcel⟩ ⟨Nat.le_of_ble_eq_true rfl, Nat.le_of_ble_eq_true rfl⟩⟩) rfl rfl (zk_rs (Nat.le_of_ble_eq_true rfl)) dX0_isSplit_2 ⟨by first | exact Nat.le_of_ble_eq_true rfl | omega | (dsimp only; omega), by first | exact Nat.le_of_ble_eq_true rfl | omega | (dsimp only; omega)⟩)) (fun v2 h => ?_)
  refine zv_if_eq X (tgt := 35) dX0_isSplit_5 (by decide) h (fun h => ?_) (fun h => ?_)
  · refine zv_iconst X (v := 0) dX0_isSplit_35 rfl ?_
    exact zv_zret X (ty := .boolean) rfl (by first | exact Nat.le_of_ble_eq_true rfl | omega | (dsimp only; omega)) (by first | exact Nat.le_of_ble_eq_true rfl | omega | (dsimp only; omega)) dX0_isSplit_36 ⟨rfl, ⟨h, rfl⟩⟩
  · refine zv_iload_n X 2 dX0_isSplit_8 rfl ?_
    refine zv_ciR ((zr_S X (As := [.int (x2)]) (rest := []) (wk_X0_isFlag l h) (va_cwS 1 X.hts (lw_S q1368 q1369 q102 q1370) rfl rfl rfl md_X0_isFlag ⟨Nat.le_of_ble_eq_true rfl, Nat.le_of_ble_eq_true rfl⟩) rfl rfl (zk_rs (Nat.le_of_ble_eq_true rfl)) dX0_isSplit_9 ⟨by first | exact Nat.le_of_ble_eq_true rfl | omega | (dsimp only; omega), by first | exact Nat.le_of_ble_eq_true rfl | omega | (dsimp only; omega)⟩)) (fun v9 h => ?_)
    refine zv_if_eq X (tgt := 35) dX0_isSplit_12 (by decide) h (fun h => ?_) (fun h => ?_)
    · refine zv_iconst X (v := 0) dX0_isSplit_35 rfl ?_
      exact zv_zret X (ty := .boolean) rfl (by first | exact Nat.le_of_ble_eq_true rfl | omega | (dsimp only; omega)) (by first | exact Nat.le_of_ble_eq_true rfl | omega | (dsimp only; omega)) dX0_isSplit_36 ⟨rfl, ⟨h, rfl⟩⟩
    · refine zv_aload_n X 0 dX0_isSplit_15 rfl ?_
      refine zv_getf_r X fo_q402 dX0_isSplit_16 h (fun v16 h => ?_)
      refine zv_iload_n X 1 dX0_isSplit_19 rfl ?_
      refine zv_cqR ((zr_Vl X (As := [.int (x1)]) (rest := []) h (fun a h => wk_X1_parcel l h) (zk_l1 ⟨_, rfl, cwV 1 X.hts (lw_V q1371 q502 q503 q103 q504) rfl rfl rfl ⟨rfl, md_X1_parcel⟩ ⟨Nat.le_of_ble_eq_true rfl, Nat.le_of_ble_eq_true rfl⟩⟩) rfl rfl (zk_rs (Nat.le_of_ble_eq_true rfl)) dX0_isSplit_20 ⟨by first | exact Nat.le_of_ble_eq_true rfl | omega | (dsimp only; omega), by first | exact Nat.le_of_ble_eq_true rfl | omega | (dsimp only; omega)⟩)) (fun v20 h => ?_)
      refine zv_iload_n X 2 dX0_isSplit_23 rfl ?_
      refine zv_iload_n X 3 dX0_isSplit_24 rfl ?_
      refine zv_ciR ((zr_S X (As := [va_rf (v20), .int (x2), .int (x3)]) (rest := []) (wk_X0_parts l h) (va_cwS 3 X.hts (lw_S q1372 q1183 q102 q1184) rfl rfl rfl md_X0_parts ⟨Nat.le_of_ble_eq_true rfl, Nat.le_of_ble_eq_true rfl⟩) rfl rfl (zk_rs (Nat.le_of_ble_eq_true rfl)) dX0_isSplit_25 ⟨by first | exact Nat.le_of_ble_eq_true rfl | omega | (dsimp only; omega), by first | exact Nat.le_of_ble_eq_true rfl | omega | (dsimp only; omega)⟩)) (fun v25 h => ?_)
      refine zv_if_eq X (tgt := 35) dX0_isSplit_28 (by decide) h (fun h => ?_) (fun h => ?_)
      · refine zv_iconst X (v := 0) dX0_isSplit_35 rfl ?_
        exact zv_zret X (ty := .boolean) rfl (by first | exact Nat.le_of_ble_eq_true rfl | omega | (dsimp only; omega)) (by first | exact Nat.le_of_ble_eq_true rfl | omega | (dsimp only; omega)) dX0_isSplit_36 ⟨rfl, ⟨h, rfl⟩⟩
      · refine zv_iconst X (v := 1) dX0_isSplit_31 rfl ?_
        refine zv_goto X (tgt := 36) dX0_isSplit_32 (by decide) ?_
        exact zv_zret X (ty := .boolean) rfl (by first | exact Nat.le_of_ble_eq_true rfl | omega | (dsimp only; omega)) (by first | exact Nat.le_of_ble_eq_true rfl | omega | (dsimp only; omega)) dX0_isSplit_36 ⟨rfl, ⟨h, rfl⟩⟩
theorem md_X2_isLive : yX2_isLive.cls ≠ "java/lang/invoke/MethodHandle" ∧ yX2_isLive.cls ≠ "java/lang/invoke/VarHandle" ∧ (parseMethodDescriptor yX2_isLive.desc).map (fun d => d.parameters.length) = some 0 := by decide +kernel
theorem wk_X2_isLive (l : Launch) {D : zk_G} {g : zk_M} {b0 : Nat} {post : Int32 → Prop} {this : Nat} {P : zk_H} (hh : wp_X2_isLive post this P) : Met l yX2_isLive (ws_ yX2_isLive cX2_isLive 1 (some Jvm.ClassFile.FieldType.boolean)) ({ frames := 0, cells := 0, slots := 0, locals := 0 } : Room) (va_Pc [.ref this] (zk_pre D g b0 P)) (va_Qi (fun r u => post r ∧ u = P) (zk_B D b0) (zk_A b0)) 0 0 (zk_A b0) := by
  refine zk_enter "LandFolio$Parcel" "isLive" rfl rfl (plainFor_of_name (by decide)) [.ref this] (Nat.le_of_ble_eq_true rfl) ?_
  intro p e s m args below meth c X
  refine zk_at0 (L' := [(0, va_rf (some this))]) (rfl) ?_
  have h := hh
  unfold wp_X2_isLive at h
  refine zv_aload_n X 0 dX2_isLive_0 rfl ?_
  refine zv_getf_i X fo_q326 dX2_isLive_1 h (fun v1 h => ?_)
  refine zv_if_ge X (tgt := 11) dX2_isLive_4 (by decide) h (fun h => ?_) (fun h => ?_)
  · refine zv_iconst X (v := 0) dX2_isLive_11 rfl ?_
    exact zv_zret X (ty := .boolean) rfl (by first | exact Nat.le_of_ble_eq_true rfl | omega | (dsimp only; omega)) (by first | exact Nat.le_of_ble_eq_true rfl | omega | (dsimp only; omega)) dX2_isLive_12 ⟨rfl, ⟨h, rfl⟩⟩
  · refine zv_iconst X (v := 1) dX2_isLive_7 rfl ?_
    refine zv_goto X (tgt := 12) dX2_isLive_8 (by decide) ?_
    exact zv_zret X (ty := .boolean) rfl (by first | exact Nat.le_of_ble_eq_true rfl | omega | (dsimp only; omega)) (by first | exact Nat.le_of_ble_eq_true rfl | omega | (dsimp only; omega)) dX2_isLive_12 ⟨rfl, ⟨h, rfl⟩⟩
theorem md_X1_isFree : yX1_isFree.cls ≠ "java/lang/invoke/MethodHandle" ∧ yX1_isFree.cls ≠ "java/lang/invoke/VarHandle" ∧ (parseMethodDescriptor yX1_isFree.desc).map (fun d => d.parameters.length) = some 1 := by decide +kernel
theorem wk_X1_isFree (l : Launch) {D : zk_G} {g : zk_M} {b0 : Nat} {post : Int32 → Prop} {this : Nat} {x1 : Int32} {P : zk_H} (hh : wp_X1_isFree post this x1 P) : Met l yX1_isFree (ws_ yX1_isFree cX1_isFree 2 (some Jvm.ClassFile.FieldType.boolean)) ({ frames := 4, cells := 0, slots := 0, locals := 85 } : Room) (va_Pc [.ref this, .int (x1)] (zk_pre D g b0 P)) (va_Qi (fun r u => post r ∧ u = P) (zk_B D b0) (zk_A b0)) 0 0 (zk_A b0) := by
  refine zk_enter "LandFolio$Folio" "isFree" rfl rfl (plainFor_of_name (by decide)) [.ref this, .int (x1)] (Nat.le_of_ble_eq_true rfl) ?_
  intro p e s m args below meth c X
  refine zk_at0 (L' := [(0, va_rf (some this)), (1, .int (x1))]) (rfl) ?_
  have h := hh
  unfold wp_X1_isFree at h
  refine zv_aload_n X 0 dX1_isFree_0 rfl ?_
  refine zv_iload_n X 1 dX1_isFree_1 rfl ?_
  refine zv_cqR ((zr_Vl X (As := [.int (x1)]) (rest := []) h (fun a h => wk_X1_parcel l h) (zk_l1 ⟨_, rfl, cwV 1 X.hts (lw_V q501 q502 q503 q103 q504) rfl rfl rfl ⟨rfl, md_X1_parcel⟩ ⟨Nat.le_of_ble_eq_true rfl, Nat.le_of_ble_eq_true rfl⟩⟩) rfl rfl (zk_rs (Nat.le_of_ble_eq_true rfl)) dX1_isFree_2 ⟨by first | exact Nat.le_of_ble_eq_true rfl | omega | (dsimp only; omega), by first | exact Nat.le_of_ble_eq_true rfl | omega | (dsimp only; omega)⟩)) (fun v2 h => ?_)
  refine zv_ciR ((zr_Vl X (As := []) (rest := []) h (fun a h => wk_X2_isLive l h) (zk_l1 ⟨_, rfl, cwV 0 X.hts (lw_V q1377 q1177 q1178 q111 q1179) rfl rfl rfl ⟨rfl, md_X2_isLive⟩ ⟨Nat.le_of_ble_eq_true rfl, Nat.le_of_ble_eq_true rfl⟩⟩) rfl rfl (zk_rs (Nat.le_of_ble_eq_true rfl)) dX1_isFree_5 ⟨by first | exact Nat.le_of_ble_eq_true rfl | omega | (dsimp only; omega), by first | exact Nat.le_of_ble_eq_true rfl | omega | (dsimp only; omega)⟩)) (fun v5 h => ?_)
  refine zv_if_eq X (tgt := 26) dX1_isFree_8 (by decide) h (fun h => ?_) (fun h => ?_)
  · refine zv_iconst X (v := 0) dX1_isFree_26 rfl ?_
    exact zv_zret X (ty := .boolean) rfl (by first | exact Nat.le_of_ble_eq_true rfl | omega | (dsimp only; omega)) (by first | exact Nat.le_of_ble_eq_true rfl | omega | (dsimp only; omega)) dX1_isFree_27 ⟨rfl, ⟨h, rfl⟩⟩
  · refine zv_aload_n X 0 dX1_isFree_11 rfl ?_
    refine zv_iload_n X 1 dX1_isFree_12 rfl ?_
    refine zv_cqR ((zr_Vl X (As := [.int (x1)]) (rest := []) h (fun a h => wk_X1_parcel l h) (zk_l1 ⟨_, rfl, cwV 1 X.hts (lw_V q501 q502 q503 q103 q504) rfl rfl rfl ⟨rfl, md_X1_parcel⟩ ⟨Nat.le_of_ble_eq_true rfl, Nat.le_of_ble_eq_true rfl⟩⟩) rfl rfl (zk_rs (Nat.le_of_ble_eq_true rfl)) dX1_isFree_13 ⟨by first | exact Nat.le_of_ble_eq_true rfl | omega | (dsimp only; omega), by first | exact Nat.le_of_ble_eq_true rfl | omega | (dsimp only; omega)⟩)) (fun v13 h => ?_)
    refine zv_getf_i X fo_q331 dX1_isFree_16 h (fun v16 h => ?_)
    refine zv_if_ne X (tgt := 26) dX1_isFree_19 (by decide) h (fun h => ?_) (fun h => ?_)
    · refine zv_iconst X (v := 0) dX1_isFree_26 rfl ?_
      exact zv_zret X (ty := .boolean) rfl (by first | exact Nat.le_of_ble_eq_true rfl | omega | (dsimp only; omega)) (by first | exact Nat.le_of_ble_eq_true rfl | omega | (dsimp only; omega)) dX1_isFree_27 ⟨rfl, ⟨h, rfl⟩⟩
    · refine zv_iconst X (v := 1) dX1_isFree_22 rfl ?_
      refine zv_goto X (tgt := 27) dX1_isFree_23 (by decide) ?_
      exact zv_zret X (ty := .boolean) rfl (by first | exact Nat.le_of_ble_eq_true rfl | omega | (dsimp only; omega)) (by first | exact Nat.le_of_ble_eq_true rfl | omega | (dsimp only; omega)) dX1_isFree_27 ⟨rfl, ⟨h, rfl⟩⟩
theorem md_X1_canSplit : yX1_canSplit.cls ≠ "java/lang/invoke/MethodHandle" ∧ yX1_canSplit.cls ≠ "java/lang/invoke/VarHandle" ∧ (parseMethodDescriptor yX1_canSplit.desc).map (fun d => d.parameters.length) = some 0 := by decide +kernel
theorem wk_X1_canSplit (l : Launch) {D : zk_G} {g : zk_M} {b0 : Nat} {post : Int32 → Prop} {this : Nat} {P : zk_H} (hh : wp_X1_canSplit post this P) : Met l yX1_canSplit (ws_ yX1_canSplit cX1_canSplit 1 (some Jvm.ClassFile.FieldType.boolean)) ({ frames := 1, cells := 0, slots := 0, locals := 20 } : Room) (va_Pc [.ref this] (zk_pre D g b0 P)) (va_Qi (fun r u => post r ∧ u = P) (zk_B D b0) (zk_A b0)) 0 0 (zk_A b0) := by
  refine zk_enter "LandFolio$Folio" "canSplit" rfl rfl (plainFor_of_name (by decide)) [.ref this] (Nat.le_of_ble_eq_true rfl) ?_
  intro p e s m args below meth c X
  refine zk_at0 (L' := [(0, va_rf (some this))]) (rfl) ?_
  have h := hh
  unfold wp_X1_canSplit at h
  refine zv_aload_n X 0 dX1_canSplit_0 rfl ?_
  refine zv_getf_r X fo_q194 dX1_canSplit_1 h (fun v1 h => ?_)
  refine zv_ciR ((zr_Vl X (As := []) (rest := []) h (fun a h => wk_J2_size l h) (zk_l1 ⟨_, rfl, cwV 0 X.hts (lw_V q361 q362 q363 q106 q364) rfl rfl rfl ⟨rfl, md_J2_size⟩ ⟨Nat.le_of_ble_eq_true rfl, Nat.le_of_ble_eq_true rfl⟩⟩) rfl rfl (zk_rs (Nat.le_of_ble_eq_true rfl)) dX1_canSplit_4 ⟨by first | exact Nat.le_of_ble_eq_true rfl | omega | (dsimp only; omega), by first | exact Nat.le_of_ble_eq_true rfl | omega | (dsimp only; omega)⟩)) (fun v4 h => ?_)
  refine zv_iconst X (v := 2) dX1_canSplit_7 rfl ?_
  refine zv_iadd X dX1_canSplit_8 ?_
  refine zv_bipush X (v := 40) dX1_canSplit_9 rfl ?_
  refine zv_icmp_gt X (tgt := 32) dX1_canSplit_11 (by decide) h (fun h => ?_) (fun h => ?_)
  · refine zv_iconst X (v := 0) dX1_canSplit_32 rfl ?_
    exact zv_zret X (ty := .boolean) rfl (by first | exact Nat.le_of_ble_eq_true rfl | omega | (dsimp only; omega)) (by first | exact Nat.le_of_ble_eq_true rfl | omega | (dsimp only; omega)) dX1_canSplit_33 ⟨rfl, ⟨h, rfl⟩⟩
  · refine zv_aload_n X 0 dX1_canSplit_14 rfl ?_
    refine zv_getf_r X fo_q197 dX1_canSplit_15 h (fun v15 h => ?_)
    refine zv_ciR ((zr_Vl X (As := []) (rest := []) h (fun a h => wk_J2_size l h) (zk_l1 ⟨_, rfl, cwV 0 X.hts (lw_V q361 q362 q363 q106 q364) rfl rfl rfl ⟨rfl, md_J2_size⟩ ⟨Nat.le_of_ble_eq_true rfl, Nat.le_of_ble_eq_true rfl⟩⟩) rfl rfl (zk_rs (Nat.le_of_ble_eq_true rfl)) dX1_canSplit_18 ⟨by first | exact Nat.le_of_ble_eq_true rfl | omega | (dsimp only; omega), by first | exact Nat.le_of_ble_eq_true rfl | omega | (dsimp only; omega)⟩)) (fun v18 h => ?_)
    refine zv_iconst X (v := 2) dX1_canSplit_21 rfl ?_
    refine zv_iadd X dX1_canSplit_22 ?_
    refine zv_bipush X (v := 60) dX1_canSplit_23 rfl ?_
    refine zv_icmp_gt X (tgt := 32) dX1_canSplit_25 (by decide) h (fun h => ?_) (fun h => ?_)
    · refine zv_iconst X (v := 0) dX1_canSplit_32 rfl ?_
      exact zv_zret X (ty := .boolean) rfl (by first | exact Nat.le_of_ble_eq_true rfl | omega | (dsimp only; omega)) (by first | exact Nat.le_of_ble_eq_true rfl | omega | (dsimp only; omega)) dX1_canSplit_33 ⟨rfl, ⟨h, rfl⟩⟩
    · refine zv_iconst X (v := 1) dX1_canSplit_28 rfl ?_
      refine zv_goto X (tgt := 33) dX1_canSplit_29 (by decide) ?_
      exact zv_zret X (ty := .boolean) rfl (by first | exact Nat.le_of_ble_eq_true rfl | omega | (dsimp only; omega)) (by first | exact Nat.le_of_ble_eq_true rfl | omega | (dsimp only; omega)) dX1_canSplit_33 ⟨rfl, ⟨h, rfl⟩⟩
theorem kj_X1_deedOn_71 {p : Program} {l : Launch} {e : Env} {s : State} {m : MethodId} {args : Array Value} {below : List Frame} {meth : Method} {c : Code} {D : zk_G} {g : zk_M} {b0 : Nat} (X : zk_X p s m args meth c D g b0 cX1_deedOn 6 "LandFolio$Folio" "deedOn" (some (Jvm.ClassFile.FieldType.object "LandFolio$Deed"))) {post : Option Nat → Prop} {K5 : Option Nat → Int32 → Prop} {a0 : Option Nat} {a1 : Int32} {a2 : Int32} {a4 : Int32} {s0 : Option Nat} {P : zk_H}  (hK5 : ∀ (u3 : Option Nat) (u4 : Int32), K5 u3 u4 → zV p l e ({ frames := 3, cells := 0, slots := 0, locals := 64 } : Room) s m args below meth c D b0 6 (0) (0) (MQ below (va_Qq (fun r u => post r ∧ u = P) (zk_B D b0) (zk_A b0)) args s 0 0 (zk_A b0)) P 5 [(0, va_rf (a0)), (1, .int (a1)), (2, .int (a2)), (3, va_rf (u3)), (4, .int (u4))] [])  (hh : wj_X1_deedOn_71 post K5 a0 a1 a2 a4 s0 P) : zV p l e ({ frames := 3, cells := 0, slots := 0, locals := 64 } : Room) s m args below meth c D b0 6 (0) (0) (MQ below (va_Qq (fun r u => post r ∧ u = P) (zk_B D b0) (zk_A b0)) args s 0 0 (zk_A b0)) P 71 [(0, va_rf (a0)), (1, .int (a1)), (2, .int (a2)), (4, .int (a4))] [va_rf (s0)] := by
  have h := hh
  unfold wj_X1_deedOn_71 at h
  refine zv_astore_n X (i := 3) (L' := [(3, va_rf (s0)), (0, va_rf (a0)), (1, .int (a1)), (2, .int (a2)), (4, .int (a4))]) dX1_deedOn_71 rfl (by decide) rfl ?_
  obtain ⟨v72, e72, h⟩ := zt_e h
  refine zv_iinc X (v := v72) (L' := [(4, .int (v72)), (3, va_rf (s0)), (0, va_rf (a0)), (1, .int (a1)), (2, .int (a2))]) 4 dX1_deedOn_72 rfl e72 (by decide) (by simp [zk_s1, zk_rc, zk_ic, zk_jc]) ?_
  refine zv_goto X (tgt := 5) dX1_deedOn_75 (by decide) ?_
  refine zv_sub (L' := [(0, va_rf (a0)), (1, .int (a1)), (2, .int (a2)), (3, va_rf (s0)), (4, .int (v72))]) [2, 3, 4, 1, 0] rfl ?_
  exact hK5 _ _ h
theorem kj_X1_deedOn_70 {p : Program} {l : Launch} {e : Env} {s : State} {m : MethodId} {args : Array Value} {below : List Frame} {meth : Method} {c : Code} {D : zk_G} {g : zk_M} {b0 : Nat} (X : zk_X p s m args meth c D g b0 cX1_deedOn 6 "LandFolio$Folio" "deedOn" (some (Jvm.ClassFile.FieldType.object "LandFolio$Deed"))) {post : Option Nat → Prop} {K5 : Option Nat → Int32 → Prop} {a0 : Option Nat} {a1 : Int32} {a2 : Int32} {a3 : Option Nat} {a4 : Int32} {P : zk_H}  (hK5 : ∀ (u3 : Option Nat) (u4 : Int32), K5 u3 u4 → zV p l e ({ frames := 3, cells := 0, slots := 0, locals := 64 } : Room) s m args below meth c D b0 6 (0) (0) (MQ below (va_Qq (fun r u => post r ∧ u = P) (zk_B D b0) (zk_A b0)) args s 0 0 (zk_A b0)) P 5 [(0, va_rf (a0)), (1, .int (a1)), (2, .int (a2)), (3, va_rf (u3)), (4, .int (u4))] [])  (hh : wj_X1_deedOn_70 post K5 a0 a1 a2 a3 a4 P) : zV p l e ({ frames := 3, cells := 0, slots := 0, locals := 64 } : Room) s m args below meth c D b0 6 (0) (0) (MQ below (va_Qq (fun r u => post r ∧ u = P) (zk_B D b0) (zk_A b0)) args s 0 0 (zk_A b0)) P 70 [(0, va_rf (a0)), (1, .int (a1)), (2, .int (a2)), (3, va_rf (a3)), (4, .int (a4))] [] := by
  have h := hh
  unfold wj_X1_deedOn_70 at h
  refine zv_aload_n X 3 dX1_deedOn_70 rfl ?_
  refine zv_sub (L' := [(0, va_rf (a0)), (1, .int (a1)), (2, .int (a2)), (4, .int (a4))]) [0, 1, 2, 4] rfl ?_
  exact kj_X1_deedOn_71 X hK5 h
theorem kj_X1_deedOn_65 {p : Program} {l : Launch} {e : Env} {s : State} {m : MethodId} {args : Array Value} {below : List Frame} {meth : Method} {c : Code} {D : zk_G} {g : zk_M} {b0 : Nat} (X : zk_X p s m args meth c D g b0 cX1_deedOn 6 "LandFolio$Folio" "deedOn" (some (Jvm.ClassFile.FieldType.object "LandFolio$Deed"))) {post : Option Nat → Prop} {K5 : Option Nat → Int32 → Prop} {a0 : Option Nat} {a1 : Int32} {a2 : Int32} {a4 : Int32} {a5 : Option Nat} {P : zk_H}  (hK5 : ∀ (u3 : Option Nat) (u4 : Int32), K5 u3 u4 → zV p l e ({ frames := 3, cells := 0, slots := 0, locals := 64 } : Room) s m args below meth c D b0 6 (0) (0) (MQ below (va_Qq (fun r u => post r ∧ u = P) (zk_B D b0) (zk_A b0)) args s 0 0 (zk_A b0)) P 5 [(0, va_rf (a0)), (1, .int (a1)), (2, .int (a2)), (3, va_rf (u3)), (4, .int (u4))] [])  (hh : wj_X1_deedOn_65 post K5 a0 a1 a2 a4 a5 P) : zV p l e ({ frames := 3, cells := 0, slots := 0, locals := 64 } : Room) s m args below meth c D b0 6 (0) (0) (MQ below (va_Qq (fun r u => post r ∧ u = P) (zk_B D b0) (zk_A b0)) args s 0 0 (zk_A b0)) P 65 [(0, va_rf (a0)), (1, .int (a1)), (2, .int (a2)), (4, .int (a4)), (5, va_rf (a5))] [] := by
  have h := hh
  unfold wj_X1_deedOn_65 at h
  refine zv_aload X 4 dX1_deedOn_65 rfl ?_
  refine zv_goto X (tgt := 71) dX1_deedOn_67 (by decide) ?_
  refine zv_sub (L' := [(0, va_rf (a0)), (1, .int (a1)), (2, .int (a2)), (4, .int (a4))]) [0, 1, 2, 3] rfl ?_
  exact kj_X1_deedOn_71 X hK5 h
theorem kb_X1_deedOn_5 {p : Program} {l : Launch} {e : Env} {s : State} {m : MethodId} {args : Array Value} {below : List Frame} {meth : Method} {c : Code} {D : zk_G} {g : zk_M} {b0 : Nat} (X : zk_X p s m args meth c D g b0 cX1_deedOn 6 "LandFolio$Folio" "deedOn" (some (Jvm.ClassFile.FieldType.object "LandFolio$Deed"))) {post : Option Nat → Prop}  {K5 : Option Nat → Int32 → Prop} {a0 : Option Nat} {a1 : Int32} {a2 : Int32} {a3 : Option Nat} {a4 : Int32} {P : zk_H}   (hK5 : ∀ (u3 : Option Nat) (u4 : Int32), K5 u3 u4 → zV p l e ({ frames := 3, cells := 0, slots := 0, locals := 64 } : Room) s m args below meth c D b0 6 (0) (0) (MQ below (va_Qq (fun r u => post r ∧ u = P) (zk_B D b0) (zk_A b0)) args s 0 0 (zk_A b0)) P 5 [(0, va_rf (a0)), (1, .int (a1)), (2, .int (a2)), (3, va_rf (u3)), (4, .int (u4))] [])  (hh : wb_X1_deedOn_5 post a0 a1 a2 P K5 a3 a4) : zV p l e ({ frames := 3, cells := 0, slots := 0, locals := 64 } : Room) s m args below meth c D b0 6 (0) (0) (MQ below (va_Qq (fun r u => post r ∧ u = P) (zk_B D b0) (zk_A b0)) args s 0 0 (zk_A b0)) P 5 [(0, va_rf (a0)), (1, .int (a1)), (2, .int (a2)), (3, va_rf (a3)), (4, .int (a4))] [] := by
  have h := hh
  unfold wb_X1_deedOn_5 at h
  refine zv_iload X 4 dX1_deedOn_5 rfl ?_
  refine zv_aload_n X 0 dX1_deedOn_7 rfl ?_
  refine zv_getf_r X fo_q197 dX1_deedOn_8 h (fun v8 h => ?_)
  refine zv_ciR ((zr_Vl X (As := []) (rest := [.int (a4)]) h (fun a h => wk_J2_size l h) (zk_l1 ⟨_, rfl, cwV 0 X.hts (lw_V q361 q362 q363 q106 q364) rfl rfl rfl ⟨rfl, md_J2_size⟩ ⟨Nat.le_of_ble_eq_true rfl, Nat.le_of_ble_eq_true rfl⟩⟩) rfl rfl (zk_rs (Nat.le_of_ble_eq_true rfl)) dX1_deedOn_11 ⟨by first | exact Nat.le_of_ble_eq_true rfl | omega | (dsimp only; omega), by first | exact Nat.le_of_ble_eq_true rfl | omega | (dsimp only; omega)⟩)) (fun v11 h => ?_)
  refine zv_icmp_ge X (tgt := 78) dX1_deedOn_14 (by decide) h (fun h => ?_) (fun h => ?_)
  · refine zv_aload_n X 3 dX1_deedOn_78 rfl ?_
    exact zv_aret X rfl (Or.inl ⟨_, rfl⟩) (by first | exact Nat.le_of_ble_eq_true rfl | omega | (dsimp only; omega)) (by first | exact Nat.le_of_ble_eq_true rfl | omega | (dsimp only; omega)) dX1_deedOn_79 ⟨h, rfl⟩
  · refine zv_aload_n X 0 dX1_deedOn_17 rfl ?_
    refine zv_getf_r X fo_q197 dX1_deedOn_18 h (fun v18 h => ?_)
    refine zv_iload X 4 dX1_deedOn_21 rfl ?_
    refine zv_cqR ((zr_Vl X (As := [.int (a4)]) (rest := []) h (fun a h => wk_J2_get l h) (zk_l1 ⟨_, rfl, cwV 1 X.hts (lw_V q505 q506 q507 q106 q508) rfl rfl rfl ⟨rfl, md_J2_get⟩ ⟨Nat.le_of_ble_eq_true rfl, Nat.le_of_ble_eq_true rfl⟩⟩) rfl rfl (zk_rs (Nat.le_of_ble_eq_true rfl)) dX1_deedOn_23 ⟨by first | exact Nat.le_of_ble_eq_true rfl | omega | (dsimp only; omega), by first | exact Nat.le_of_ble_eq_true rfl | omega | (dsimp only; omega)⟩)) (fun v23 h => ?_)
    refine zv_cast X zk_cs5 q359 dX1_deedOn_26 h (fun h => ?_)
    refine zv_astore X (L' := [(5, va_rf (v23)), (0, va_rf (a0)), (1, .int (a1)), (2, .int (a2)), (3, va_rf (a3)), (4, .int (a4))]) dX1_deedOn_29 (by decide) rfl ?_
    refine zv_aload X 0 dX1_deedOn_31 rfl ?_
    refine zv_getf_i X fo_q370 dX1_deedOn_33 h (fun v33 h => ?_)
    refine zv_iload_n X 2 dX1_deedOn_36 rfl ?_
    refine zv_icmp_ne X (tgt := 70) dX1_deedOn_37 (by decide) h (fun h => ?_) (fun h => ?_)
    · refine zv_sub (L' := [(0, va_rf (a0)), (1, .int (a1)), (2, .int (a2)), (3, va_rf (a3)), (4, .int (a4))]) [1, 2, 3, 4, 5] rfl ?_
      exact kj_X1_deedOn_70 X hK5 h
    · refine zv_aload X 0 dX1_deedOn_40 rfl ?_
      refine zv_getf_i X fo_q372 dX1_deedOn_42 h (fun v42 h => ?_)
      refine zv_iload_n X 3 dX1_deedOn_45 rfl ?_
      refine zv_icmp_gt X (tgt := 70) dX1_deedOn_46 (by decide) h (fun h => ?_) (fun h => ?_)
      · refine zv_sub (L' := [(0, va_rf (a0)), (1, .int (a1)), (2, .int (a2)), (3, va_rf (a3)), (4, .int (a4))]) [1, 2, 3, 4, 5] rfl ?_
        exact kj_X1_deedOn_70 X hK5 h
      · refine zv_aload_n X 4 dX1_deedOn_49 rfl ?_
        refine zv_ifnull X (tgt := 65) dX1_deedOn_50 (by decide) h (fun h => ?_) (fun h => ?_)
        · refine zv_sub (L' := [(0, va_rf (a0)), (1, .int (a1)), (2, .int (a2)), (4, .int (a4)), (5, va_rf (v23))]) [1, 2, 3, 5, 0] rfl ?_
          exact kj_X1_deedOn_65 X hK5 h
        · refine zv_aload X 0 dX1_deedOn_53 rfl ?_
          refine zv_getf_i X fo_q372 dX1_deedOn_55 h (fun v55 h => ?_)
          refine zv_aload_n X 4 dX1_deedOn_58 rfl ?_
          refine zv_getf_i X fo_q372 dX1_deedOn_59 h (fun v59 h => ?_)
          refine zv_icmp_lt X (tgt := 70) dX1_deedOn_62 (by decide) h (fun h => ?_) (fun h => ?_)
          · refine zv_sub (L' := [(0, va_rf (a0)), (1, .int (a1)), (2, .int (a2)), (3, va_rf (a3)), (4, .int (a4))]) [1, 2, 3, 4, 5] rfl ?_
            exact kj_X1_deedOn_70 X hK5 h
          · refine zv_sub (L' := [(0, va_rf (a0)), (1, .int (a1)), (2, .int (a2)), (4, .int (a4)), (5, va_rf (v23))]) [1, 2, 3, 5, 0] rfl ?_
            exact kj_X1_deedOn_65 X hK5 h
theorem kl_X1_deedOn_5 {p : Program} {l : Launch} {e : Env} {s : State} {m : MethodId} {args : Array Value} {below : List Frame} {meth : Method} {c : Code} {D : zk_G} {g : zk_M} {b0 : Nat} (X : zk_X p s m args meth c D g b0 cX1_deedOn 6 "LandFolio$Folio" "deedOn" (some (Jvm.ClassFile.FieldType.object "LandFolio$Deed"))) {post : Option Nat → Prop}  {a0 : Option Nat} {a1 : Int32} {a2 : Int32} {P : zk_H}   : ∀ (n : Nat) (a3 : Option Nat) (a4 : Int32), wl_X1_deedOn_5 post a0 a1 a2 P n a3 a4 → zV p l e ({ frames := 3, cells := 0, slots := 0, locals := 64 } : Room) s m args below meth c D b0 6 (0) (0) (MQ below (va_Qq (fun r u => post r ∧ u = P) (zk_B D b0) (zk_A b0)) args s 0 0 (zk_A b0)) P 5 [(0, va_rf (a0)), (1, .int (a1)), (2, .int (a2)), (3, va_rf (a3)), (4, .int (a4))] [] := by
  intro n
  induction n with
  | zero => intro _ _ h; exact h.elim
  | succ n ih =>
    intro a3 a4 h
    exact kb_X1_deedOn_5 X  (fun u0 u1 h => ih _ _ h)  h
theorem md_X1_deedOn : yX1_deedOn.cls ≠ "java/lang/invoke/MethodHandle" ∧ yX1_deedOn.cls ≠ "java/lang/invoke/VarHandle" ∧ (parseMethodDescriptor yX1_deedOn.desc).map (fun d => d.parameters.length) = some 2 := by decide +kernel
theorem wk_X1_deedOn (l : Launch) {D : zk_G} {g : zk_M} {b0 : Nat} {post : Option Nat → Prop} {this : Nat} {x1 : Int32} {x2 : Int32} {P : zk_H} (hh : wp_X1_deedOn post this x1 x2 P) : Met l yX1_deedOn (ws_ yX1_deedOn cX1_deedOn 6 (some (Jvm.ClassFile.FieldType.object "LandFolio$Deed"))) ({ frames := 3, cells := 0, slots := 0, locals := 64 } : Room) (va_Pc [.ref this, .int (x1), .int (x2)] (zk_pre D g b0 P)) (va_Qq (fun r u => post r ∧ u = P) (zk_B D b0) (zk_A b0)) 0 0 (zk_A b0) := by
  refine zk_enter "LandFolio$Folio" "deedOn" rfl rfl (plainFor_of_name (by decide)) [.ref this, .int (x1), .int (x2)] (Nat.le_of_ble_eq_true rfl) ?_
  intro p e s m args below meth c X
  refine zk_at0 (L' := [(0, va_rf (some this)), (1, .int (x1)), (2, .int (x2))]) (rfl) ?_
  have h := hh
  unfold wp_X1_deedOn at h
  refine zv_null X dX1_deedOn_0 ?_
  refine zv_astore_n X (i := 3) (L' := [(3, va_rf (none)), (0, va_rf (some this)), (1, .int (x1)), (2, .int (x2))]) dX1_deedOn_1 rfl (by decide) rfl ?_
  refine zv_iconst X (v := 0) dX1_deedOn_2 rfl ?_
  refine zv_istore X (L' := [(4, .int (0)), (3, va_rf (none)), (0, va_rf (some this)), (1, .int (x1)), (2, .int (x2))]) dX1_deedOn_3 (by decide) rfl ?_
  refine zv_sub (L' := [(0, va_rf (some this)), (1, .int (x1)), (2, .int (x2)), (3, va_rf (none)), (4, .int (0))]) [2, 3, 4, 1, 0] rfl ?_
  obtain ⟨n3, h⟩ := h
  exact kl_X1_deedOn_5 X  n3 _ _ h
theorem md_X1_deed : yX1_deed.cls ≠ "java/lang/invoke/MethodHandle" ∧ yX1_deed.cls ≠ "java/lang/invoke/VarHandle" ∧ (parseMethodDescriptor yX1_deed.desc).map (fun d => d.parameters.length) = some 1 := by decide +kernel
theorem wk_X1_deed (l : Launch) {D : zk_G} {g : zk_M} {b0 : Nat} {post : Option Nat → Prop} {this : Nat} {x1 : Int32} {P : zk_H} (hh : wp_X1_deed post this x1 P) : Met l yX1_deed (ws_ yX1_deed cX1_deed 2 (some (Jvm.ClassFile.FieldType.object "LandFolio$Deed"))) ({ frames := 4, cells := 0, slots := 0, locals := 89 } : Room) (va_Pc [.ref this, .int (x1)] (zk_pre D g b0 P)) (va_Qq (fun r u => post r ∧ u = P) (zk_B D b0) (zk_A b0)) 0 0 (zk_A b0) := by
  refine zk_enter "LandFolio$Folio" "deed" rfl rfl (plainFor_of_name (by decide)) [.ref this, .int (x1)] (Nat.le_of_ble_eq_true rfl) ?_
  intro p e s m args below meth c X
  refine zk_at0 (L' := [(0, va_rf (some this)), (1, .int (x1))]) (rfl) ?_
  have h := hh
  unfold wp_X1_deed at h
  refine zv_aload_n X 0 dX1_deed_0 rfl ?_
  refine zv_iload_n X 1 dX1_deed_1 rfl ?_
  refine zv_sipush X (v := 9999) dX1_deed_2 rfl ?_
  refine zv_cqR ((zr_Vl X (As := [.int (x1), .int (9999)]) (rest := []) h (fun a h => wk_X1_deedOn l h) (zk_l1 ⟨_, rfl, cwV 2 X.hts (lw_V q1193 q1194 q1195 q103 q1196) rfl rfl rfl ⟨rfl, md_X1_deedOn⟩ ⟨Nat.le_of_ble_eq_true rfl, Nat.le_of_ble_eq_true rfl⟩⟩) rfl rfl (zk_rs (Nat.le_of_ble_eq_true rfl)) dX1_deed_5 ⟨by first | exact Nat.le_of_ble_eq_true rfl | omega | (dsimp only; omega), by first | exact Nat.le_of_ble_eq_true rfl | omega | (dsimp only; omega)⟩)) (fun v5 h => ?_)
  exact zv_aret X rfl (Or.inl ⟨_, rfl⟩) (by first | exact Nat.le_of_ble_eq_true rfl | omega | (dsimp only; omega)) (by first | exact Nat.le_of_ble_eq_true rfl | omega | (dsimp only; omega)) dX1_deed_8 ⟨h, rfl⟩
theorem md_X7_isOn : yX7_isOn.cls ≠ "java/lang/invoke/MethodHandle" ∧ yX7_isOn.cls ≠ "java/lang/invoke/VarHandle" ∧ (parseMethodDescriptor yX7_isOn.desc).map (fun d => d.parameters.length) = some 1 := by decide +kernel
theorem wk_X7_isOn (l : Launch) {D : zk_G} {g : zk_M} {b0 : Nat} {post : Int32 → Prop} {this : Nat} {x1 : Int32} {P : zk_H} (hh : wp_X7_isOn post this x1 P) : Met l yX7_isOn (ws_ yX7_isOn cX7_isOn 2 (some Jvm.ClassFile.FieldType.boolean)) ({ frames := 2, cells := 0, slots := 0, locals := 42 } : Room) (va_Pc [.ref this, .int (x1)] (zk_pre D g b0 P)) (va_Qi (fun r u => post r ∧ u = P) (zk_B D b0) (zk_A b0)) 0 0 (zk_A b0) := by
  refine zk_enter "LandFolio$Burden" "isOn" rfl rfl (plainFor_of_name (by decide)) [.ref this, .int (x1)] (Nat.le_of_ble_eq_true rfl) ?_
  intro p e s m args below meth c X
  refine zk_at0 (L' := [(0, va_rf (some this)), (1, .int (x1))]) (rfl) ?_
  have h := hh
  unfold wp_X7_isOn at h
  refine zv_aload_n X 0 dX7_isOn_0 rfl ?_
  refine zv_getf_r X fo_q599 dX7_isOn_1 h (fun v1 h => ?_)
  refine zv_iload_n X 1 dX7_isOn_4 rfl ?_
  refine zv_ciR ((zr_Vl X (As := [.int (x1)]) (rest := []) h (fun a h => wk_J16_get l h) (zk_l1 ⟨_, rfl, cwV 1 X.hts (lw_V q1212 q1213 q1214 q126 q1215) rfl rfl rfl ⟨rfl, md_J16_get⟩ ⟨Nat.le_of_ble_eq_true rfl, Nat.le_of_ble_eq_true rfl⟩⟩) rfl rfl (zk_rs (Nat.le_of_ble_eq_true rfl)) dX7_isOn_5 ⟨by first | exact Nat.le_of_ble_eq_true rfl | omega | (dsimp only; omega), by first | exact Nat.le_of_ble_eq_true rfl | omega | (dsimp only; omega)⟩)) (fun v5 h => ?_)
  obtain ⟨hb, h⟩ := h
  exact zv_zret X (ty := .boolean) rfl (by first | exact Nat.le_of_ble_eq_true rfl | omega | (dsimp only; omega)) (by first | exact Nat.le_of_ble_eq_true rfl | omega | (dsimp only; omega)) dX7_isOn_8 ⟨hb, ⟨h, rfl⟩⟩
theorem md_X2_has : yX2_has.cls ≠ "java/lang/invoke/MethodHandle" ∧ yX2_has.cls ≠ "java/lang/invoke/VarHandle" ∧ (parseMethodDescriptor yX2_has.desc).map (fun d => d.parameters.length) = some 2 := by decide +kernel
theorem wk_X2_has (l : Launch) {D : zk_G} {g : zk_M} {b0 : Nat} {post : Int32 → Prop} {this : Nat} {x1 : Int32} {x2 : Int32} {P : zk_H} (hh : wp_X2_has post this x1 x2 P) : Met l yX2_has (ws_ yX2_has cX2_has 3 (some Jvm.ClassFile.FieldType.boolean)) ({ frames := 1, cells := 0, slots := 0, locals := 22 } : Room) (va_Pc [.ref this, .int (x1), .int (x2)] (zk_pre D g b0 P)) (va_Qi (fun r u => post r ∧ u = P) (zk_B D b0) (zk_A b0)) 0 0 (zk_A b0) := by
  refine zk_enter "LandFolio$Parcel" "has" rfl rfl (plainFor_of_name (by decide)) [.ref this, .int (x1), .int (x2)] (Nat.le_of_ble_eq_true rfl) ?_
  intro p e s m args below meth c X
  refine zk_at0 (L' := [(0, va_rf (some this)), (1, .int (x1)), (2, .int (x2))]) (rfl) ?_
  have h := hh
  unfold wp_X2_has at h
  refine zv_iload_n X 1 dX2_has_0 rfl ?_
  refine zv_aload_n X 0 dX2_has_1 rfl ?_
  refine zv_getf_i X fo_q306 dX2_has_2 h (fun v2 h => ?_)
  refine zv_aload_n X 0 dX2_has_5 rfl ?_
  refine zv_getf_i X fo_q306 dX2_has_6 h (fun v6 h => ?_)
  refine zv_aload_n X 0 dX2_has_9 rfl ?_
  refine zv_getf_i X fo_q313 dX2_has_10 h (fun v10 h => ?_)
  refine zv_iadd X dX2_has_13 ?_
  refine zv_iconst X (v := 1) dX2_has_14 rfl ?_
  refine zv_isub X dX2_has_15 ?_
  refine zv_ciR ((zr_SN X (As := [.int (x1), .int (v2), .int ((v6 + v10) - 1)]) (rest := []) (wk_X0_isIn l h) ⟨zk_cwN X 3 q1224 (lw_meth q464) q102 md_X0_isIn ⟨Nat.le_of_ble_eq_true rfl, Nat.le_of_ble_eq_true rfl⟩, q463⟩ rfl rfl (zk_rs (Nat.le_of_ble_eq_true rfl)) dX2_has_16 ⟨by first | exact Nat.le_of_ble_eq_true rfl | omega | (dsimp only; omega), by first | exact Nat.le_of_ble_eq_true rfl | omega | (dsimp only; omega)⟩)) (fun v16 h => ?_)
  refine zv_if_eq X (tgt := 48) dX2_has_19 (by decide) h (fun h => ?_) (fun h => ?_)
  · refine zv_iconst X (v := 0) dX2_has_48 rfl ?_
    exact zv_zret X (ty := .boolean) rfl (by first | exact Nat.le_of_ble_eq_true rfl | omega | (dsimp only; omega)) (by first | exact Nat.le_of_ble_eq_true rfl | omega | (dsimp only; omega)) dX2_has_49 ⟨rfl, ⟨h, rfl⟩⟩
  · refine zv_iload_n X 2 dX2_has_22 rfl ?_
    refine zv_aload_n X 0 dX2_has_23 rfl ?_
    refine zv_getf_i X fo_q310 dX2_has_24 h (fun v24 h => ?_)
    refine zv_aload_n X 0 dX2_has_27 rfl ?_
    refine zv_getf_i X fo_q310 dX2_has_28 h (fun v28 h => ?_)
    refine zv_aload_n X 0 dX2_has_31 rfl ?_
    refine zv_getf_i X fo_q317 dX2_has_32 h (fun v32 h => ?_)
    refine zv_iadd X dX2_has_35 ?_
    refine zv_iconst X (v := 1) dX2_has_36 rfl ?_
    refine zv_isub X dX2_has_37 ?_
    refine zv_ciR ((zr_SN X (As := [.int (x2), .int (v24), .int ((v28 + v32) - 1)]) (rest := []) (wk_X0_isIn l h) ⟨zk_cwN X 3 q1224 (lw_meth q464) q102 md_X0_isIn ⟨Nat.le_of_ble_eq_true rfl, Nat.le_of_ble_eq_true rfl⟩, q463⟩ rfl rfl (zk_rs (Nat.le_of_ble_eq_true rfl)) dX2_has_38 ⟨by first | exact Nat.le_of_ble_eq_true rfl | omega | (dsimp only; omega), by first | exact Nat.le_of_ble_eq_true rfl | omega | (dsimp only; omega)⟩)) (fun v38 h => ?_)
    refine zv_if_eq X (tgt := 48) dX2_has_41 (by decide) h (fun h => ?_) (fun h => ?_)
    · refine zv_iconst X (v := 0) dX2_has_48 rfl ?_
      exact zv_zret X (ty := .boolean) rfl (by first | exact Nat.le_of_ble_eq_true rfl | omega | (dsimp only; omega)) (by first | exact Nat.le_of_ble_eq_true rfl | omega | (dsimp only; omega)) dX2_has_49 ⟨rfl, ⟨h, rfl⟩⟩
    · refine zv_iconst X (v := 1) dX2_has_44 rfl ?_
      refine zv_goto X (tgt := 49) dX2_has_45 (by decide) ?_
      exact zv_zret X (ty := .boolean) rfl (by first | exact Nat.le_of_ble_eq_true rfl | omega | (dsimp only; omega)) (by first | exact Nat.le_of_ble_eq_true rfl | omega | (dsimp only; omega)) dX2_has_49 ⟨rfl, ⟨h, rfl⟩⟩
theorem kj_X1_canLie_27 {p : Program} {l : Launch} {e : Env} {s : State} {m : MethodId} {args : Array Value} {below : List Frame} {meth : Method} {c : Code} {D : zk_G} {g : zk_M} {b0 : Nat} (X : zk_X p s m args meth c D g b0 cX1_canLie 3 "LandFolio$Folio" "canLie" (some Jvm.ClassFile.FieldType.boolean)) {post : Int32 → Prop}   {P : zk_H}    (hh : wj_X1_canLie_27 post P) : zV p l e ({ frames := 2, cells := 0, slots := 0, locals := 44 } : Room) s m args below meth c D b0 3 (0) (0) (MQ below (va_Qi (fun r u => post r ∧ u = P) (zk_B D b0) (zk_A b0)) args s 0 0 (zk_A b0)) P 27 [] [] := by
  have h := hh
  unfold wj_X1_canLie_27 at h
  refine zv_iconst X (v := 1) dX1_canLie_27 rfl ?_
  refine zv_goto X (tgt := 32) dX1_canLie_28 (by decide) ?_
  exact zv_zret X (ty := .boolean) rfl (by first | exact Nat.le_of_ble_eq_true rfl | omega | (dsimp only; omega)) (by first | exact Nat.le_of_ble_eq_true rfl | omega | (dsimp only; omega)) dX1_canLie_32 ⟨rfl, ⟨h, rfl⟩⟩
theorem md_X1_canLie : yX1_canLie.cls ≠ "java/lang/invoke/MethodHandle" ∧ yX1_canLie.cls ≠ "java/lang/invoke/VarHandle" ∧ (parseMethodDescriptor yX1_canLie.desc).map (fun d => d.parameters.length) = some 2 := by decide +kernel
theorem wk_X1_canLie (l : Launch) {D : zk_G} {g : zk_M} {b0 : Nat} {post : Int32 → Prop} {x0 : Option Nat} {x1 : Option Nat} {P : zk_H} (hh : wp_X1_canLie post x0 x1 P) : Met l yX1_canLie (ws_ yX1_canLie cX1_canLie 3 (some Jvm.ClassFile.FieldType.boolean)) ({ frames := 2, cells := 0, slots := 0, locals := 44 } : Room) (va_Pc [va_rf (x0), va_rf (x1)] (zk_pre D g b0 P)) (va_Qi (fun r u => post r ∧ u = P) (zk_B D b0) (zk_A b0)) 0 0 (zk_A b0) := by
  refine zk_enter "LandFolio$Folio" "canLie" rfl rfl (plainFor_of_name (by decide)) [va_rf (x0), va_rf (x1)] (by cases x0 <;> cases x1 <;> exact Nat.le_of_ble_eq_true rfl) ?_
  intro p e s m args below meth c X
  refine zk_at0 (L' := [(0, va_rf (x0)), (1, va_rf (x1))]) (by cases x0 <;> cases x1 <;> rfl) ?_
  have h := hh
  unfold wp_X1_canLie at h
  refine zv_aload_n X 0 dX1_canLie_0 rfl ?_
  refine zv_inst X zk_cs6 (zk_l1 ⟨_, rfl, X.nc (i := 0) rfl⟩) q1219 dX1_canLie_1 h (fun v1 h => ?_)
  refine zv_if_eq X (tgt := 27) dX1_canLie_4 (by decide) h (fun h => ?_) (fun h => ?_)
  · refine zv_sub (L' := []) [] rfl ?_
    exact kj_X1_canLie_27 X  h
  · refine zv_aload_n X 0 dX1_canLie_7 rfl ?_
    refine zv_cast X zk_cs6 q1219 dX1_canLie_8 h (fun h => ?_)
    refine zv_astore_n X (i := 2) (L' := [(2, va_rf (x0)), (0, va_rf (x0)), (1, va_rf (x1))]) dX1_canLie_11 rfl (by decide) (by simp [zk_s1, zk_s2, zk_rc, zk_ic, zk_jc]) ?_
    refine zv_aload_n X 2 dX1_canLie_12 rfl ?_
    refine zv_aload_n X 0 dX1_canLie_13 rfl ?_
    refine zv_getf_i X fo_q631 dX1_canLie_14 h (fun v14 h => ?_)
    refine zv_aload_n X 0 dX1_canLie_17 rfl ?_
    refine zv_getf_i X fo_q634 dX1_canLie_18 h (fun v18 h => ?_)
    refine zv_ciR ((zr_Vl X (As := [.int (v14), .int (v18)]) (rest := []) h (fun a h => wk_X2_has l h) (zk_l1 ⟨_, rfl, cwV 2 X.hts (lw_V q1220 q1221 q1222 q111 q1223) rfl rfl rfl ⟨rfl, md_X2_has⟩ ⟨Nat.le_of_ble_eq_true rfl, Nat.le_of_ble_eq_true rfl⟩⟩) rfl rfl (zk_rs (Nat.le_of_ble_eq_true rfl)) dX1_canLie_21 ⟨by first | exact Nat.le_of_ble_eq_true rfl | omega | (dsimp only; omega), by first | exact Nat.le_of_ble_eq_true rfl | omega | (dsimp only; omega)⟩)) (fun v21 h => ?_)
    refine zv_if_eq X (tgt := 31) dX1_canLie_24 (by decide) h (fun h => ?_) (fun h => ?_)
    · refine zv_iconst X (v := 0) dX1_canLie_31 rfl ?_
      exact zv_zret X (ty := .boolean) rfl (by first | exact Nat.le_of_ble_eq_true rfl | omega | (dsimp only; omega)) (by first | exact Nat.le_of_ble_eq_true rfl | omega | (dsimp only; omega)) dX1_canLie_32 ⟨rfl, ⟨h, rfl⟩⟩
    · refine zv_sub (L' := []) [] rfl ?_
      exact kj_X1_canLie_27 X  h
theorem kj_X1_moves_51 {p : Program} {l : Launch} {e : Env} {s : State} {m : MethodId} {args : Array Value} {below : List Frame} {meth : Method} {c : Code} {D : zk_G} {g : zk_M} {b0 : Nat} (X : zk_X p s m args meth c D g b0 cX1_moves 5 "LandFolio$Folio" "moves" none) {post : zk_H → Prop} {K2 : Int32 → zk_H → Prop} {a0 : Option Nat} {a1 : Int32} {a2 : Int32} {a3 : Int32} {P : zk_H}  (hK2 : ∀ (u3 : Int32) (U : zk_H), K2 u3 U → zV p l e ({ frames := 4, cells := 0, slots := 0, locals := 85 } : Room) s m args below meth c D b0 5 (0) (0) (MQ below (va_Qv post (zk_B D b0) (zk_A b0)) args s 0 0 (zk_A b0)) U 2 [(0, va_rf (a0)), (1, .int (a1)), (2, .int (a2)), (3, .int (u3))] [])  (hh : wj_X1_moves_51 post K2 a0 a1 a2 a3 P) : zV p l e ({ frames := 4, cells := 0, slots := 0, locals := 85 } : Room) s m args below meth c D b0 5 (0) (0) (MQ below (va_Qv post (zk_B D b0) (zk_A b0)) args s 0 0 (zk_A b0)) P 51 [(0, va_rf (a0)), (1, .int (a1)), (2, .int (a2)), (3, .int (a3))] [] := by
  have h := hh
  unfold wj_X1_moves_51 at h
  obtain ⟨v51, e51, h⟩ := zt_e h
  refine zv_iinc X (v := v51) (L' := [(3, .int (v51)), (0, va_rf (a0)), (1, .int (a1)), (2, .int (a2))]) 3 dX1_moves_51 rfl e51 (by decide) rfl ?_
  refine zv_goto X (tgt := 2) dX1_moves_54 (by decide) ?_
  refine zv_sub (L' := [(0, va_rf (a0)), (1, .int (a1)), (2, .int (a2)), (3, .int (v51))]) [1, 2, 3, 0] rfl ?_
  exact hK2 _ _ h
theorem kb_X1_moves_2 {p : Program} {l : Launch} {e : Env} {s : State} {m : MethodId} {args : Array Value} {below : List Frame} {meth : Method} {c : Code} {D : zk_G} {g : zk_M} {b0 : Nat} (X : zk_X p s m args meth c D g b0 cX1_moves 5 "LandFolio$Folio" "moves" none) {post : zk_H → Prop}  {K2 : Int32 → zk_H → Prop} {a0 : Option Nat} {a1 : Int32} {a2 : Int32} {a3 : Int32} {P : zk_H}   (hK2 : ∀ (u3 : Int32) (U : zk_H), K2 u3 U → zV p l e ({ frames := 4, cells := 0, slots := 0, locals := 85 } : Room) s m args below meth c D b0 5 (0) (0) (MQ below (va_Qv post (zk_B D b0) (zk_A b0)) args s 0 0 (zk_A b0)) U 2 [(0, va_rf (a0)), (1, .int (a1)), (2, .int (a2)), (3, .int (u3))] [])  (hh : wb_X1_moves_2 post a0 a1 a2 K2 a3 P) : zV p l e ({ frames := 4, cells := 0, slots := 0, locals := 85 } : Room) s m args below meth c D b0 5 (0) (0) (MQ below (va_Qv post (zk_B D b0) (zk_A b0)) args s 0 0 (zk_A b0)) P 2 [(0, va_rf (a0)), (1, .int (a1)), (2, .int (a2)), (3, .int (a3))] [] := by
  have h := hh
  unfold wb_X1_moves_2 at h
  refine zv_iload_n X 3 dX1_moves_2 rfl ?_
  refine zv_aload_n X 0 dX1_moves_3 rfl ?_
  refine zv_getf_r X fo_q199 dX1_moves_4 h (fun v4 h => ?_)
  refine zv_ciR ((zr_Vl X (As := []) (rest := [.int (a3)]) h (fun a h => wk_J2_size l h) (zk_l1 ⟨_, rfl, cwV 0 X.hts (lw_V q361 q362 q363 q106 q364) rfl rfl rfl ⟨rfl, md_J2_size⟩ ⟨Nat.le_of_ble_eq_true rfl, Nat.le_of_ble_eq_true rfl⟩⟩) rfl rfl (zk_rs (Nat.le_of_ble_eq_true rfl)) dX1_moves_7 ⟨by first | exact Nat.le_of_ble_eq_true rfl | omega | (dsimp only; omega), by first | exact Nat.le_of_ble_eq_true rfl | omega | (dsimp only; omega)⟩)) (fun v7 h => ?_)
  refine zv_icmp_ge X (tgt := 57) dX1_moves_10 (by decide) h (fun h => ?_) (fun h => ?_)
  · exact zv_vret X rfl (by first | exact Nat.le_of_ble_eq_true rfl | omega | (dsimp only; omega)) (by first | exact Nat.le_of_ble_eq_true rfl | omega | (dsimp only; omega)) dX1_moves_57 h
  · refine zv_aload_n X 0 dX1_moves_13 rfl ?_
    refine zv_iload_n X 3 dX1_moves_14 rfl ?_
    refine zv_cqR ((zr_Vl X (As := [.int (a3)]) (rest := []) h (fun a h => wk_X1_burden l h) (zk_l1 ⟨_, rfl, cwV 1 X.hts (lw_V q525 q526 q527 q103 q528) rfl rfl rfl ⟨rfl, md_X1_burden⟩ ⟨Nat.le_of_ble_eq_true rfl, Nat.le_of_ble_eq_true rfl⟩⟩) rfl rfl (zk_rs (Nat.le_of_ble_eq_true rfl)) dX1_moves_15 ⟨by first | exact Nat.le_of_ble_eq_true rfl | omega | (dsimp only; omega), by first | exact Nat.le_of_ble_eq_true rfl | omega | (dsimp only; omega)⟩)) (fun v15 h => ?_)
    refine zv_astore X (L' := [(4, va_rf (v15)), (0, va_rf (a0)), (1, .int (a1)), (2, .int (a2)), (3, .int (a3))]) dX1_moves_18 (by decide) rfl ?_
    refine zv_aload X 0 dX1_moves_20 rfl ?_
    refine zv_iload_n X 2 dX1_moves_22 rfl ?_
    refine zv_ciR ((zr_Ul X (As := [.int (a1)]) (rest := []) h (fun a h => wk_X7_isOn l h) (zk_l2 ⟨_, rfl, _, va_cwU 1 X.hts (zk_wsU q1206 q1208 q1209 q1207 q127 q1211) rfl rfl rfl rfl md_X7_isOn ⟨Nat.le_of_ble_eq_true rfl, Nat.le_of_ble_eq_true rfl⟩⟩ ⟨_, rfl, _, va_cwU 1 X.hts (zk_wsU q1206 q1208 q1210 q1207 q127 q1211) rfl rfl rfl rfl md_X7_isOn ⟨Nat.le_of_ble_eq_true rfl, Nat.le_of_ble_eq_true rfl⟩⟩) rfl rfl (zk_rs (Nat.le_of_ble_eq_true rfl)) dX1_moves_23 ⟨by first | exact Nat.le_of_ble_eq_true rfl | omega | (dsimp only; omega), by first | exact Nat.le_of_ble_eq_true rfl | omega | (dsimp only; omega)⟩)) (fun v23 h => ?_)
    refine zv_if_eq X (tgt := 51) dX1_moves_26 (by decide) h (fun h => ?_) (fun h => ?_)
    · refine zv_sub (L' := [(0, va_rf (a0)), (1, .int (a1)), (2, .int (a2)), (3, .int (a3))]) [1, 2, 3, 4] rfl ?_
      exact kj_X1_moves_51 X hK2 h
    · refine zv_aload X 0 dX1_moves_29 rfl ?_
      refine zv_aload_n X 1 dX1_moves_31 rfl ?_
      refine zv_iload_n X 3 dX1_moves_32 rfl ?_
      refine zv_cqR ((zr_Vl X (As := [.int (a2)]) (rest := [va_rf (v15)]) h (fun a h => wk_X1_parcel l h) (zk_l1 ⟨_, rfl, cwV 1 X.hts (lw_V q501 q502 q503 q103 q504) rfl rfl rfl ⟨rfl, md_X1_parcel⟩ ⟨Nat.le_of_ble_eq_true rfl, Nat.le_of_ble_eq_true rfl⟩⟩) rfl rfl (zk_rs (Nat.le_of_ble_eq_true rfl)) dX1_moves_33 ⟨by first | exact Nat.le_of_ble_eq_true rfl | omega | (dsimp only; omega), by first | exact Nat.le_of_ble_eq_true rfl | omega | (dsimp only; omega)⟩)) (fun v33 h => ?_)
      refine zv_ciR ((zr_S X (As := [va_rf (v15), va_rf (v33)]) (rest := []) (wk_X1_canLie l h) (va_cwS 2 X.hts (lw_S q1216 q1217 q103 q1218) rfl rfl rfl md_X1_canLie ⟨Nat.le_of_ble_eq_true rfl, Nat.le_of_ble_eq_true rfl⟩) rfl rfl (zk_rs (Nat.le_of_ble_eq_true rfl)) dX1_moves_36 ⟨by first | exact Nat.le_of_ble_eq_true rfl | omega | (dsimp only; omega), by first | exact Nat.le_of_ble_eq_true rfl | omega | (dsimp only; omega)⟩)) (fun v36 h => ?_)
      refine zv_if_eq X (tgt := 51) dX1_moves_39 (by decide) h (fun h => ?_) (fun h => ?_)
      · refine zv_sub (L' := [(0, va_rf (a0)), (1, .int (a1)), (2, .int (a2)), (3, .int (a3))]) [1, 2, 3, 4] rfl ?_
        exact kj_X1_moves_51 X hK2 h
      · refine zv_aload X 0 dX1_moves_42 rfl ?_
        refine zv_getf_r X fo_q600 dX1_moves_44 h (fun v44 h => ?_)
        refine zv_iload_n X 3 dX1_moves_47 rfl ?_
        refine zv_cv ((zr_Vl X (As := [.int (a2)]) (rest := []) h (fun a h => wk_J16_set l h) (zk_l1 ⟨_, rfl, cwV 1 X.hts (lw_V q1225 q1226 q1227 q126 q1228) rfl rfl rfl ⟨rfl, md_J16_set⟩ ⟨Nat.le_of_ble_eq_true rfl, Nat.le_of_ble_eq_true rfl⟩⟩) rfl rfl (zk_rs (Nat.le_of_ble_eq_true rfl)) dX1_moves_48 ⟨by first | exact Nat.le_of_ble_eq_true rfl | omega | (dsimp only; omega), by first | exact Nat.le_of_ble_eq_true rfl | omega | (dsimp only; omega)⟩)) (fun P48 h => ?_)
        refine zv_sub (L' := [(0, va_rf (a0)), (1, .int (a1)), (2, .int (a2)), (3, .int (a3))]) [1, 2, 3, 4] rfl ?_
        exact kj_X1_moves_51 X hK2 h
theorem kl_X1_moves_2 {p : Program} {l : Launch} {e : Env} {s : State} {m : MethodId} {args : Array Value} {below : List Frame} {meth : Method} {c : Code} {D : zk_G} {g : zk_M} {b0 : Nat} (X : zk_X p s m args meth c D g b0 cX1_moves 5 "LandFolio$Folio" "moves" none) {post : zk_H → Prop}  {a0 : Option Nat} {a1 : Int32} {a2 : Int32}   : ∀ (n : Nat) (a3 : Int32) (P : zk_H), wl_X1_moves_2 post a0 a1 a2 n a3 P → zV p l e ({ frames := 4, cells := 0, slots := 0, locals := 85 } : Room) s m args below meth c D b0 5 (0) (0) (MQ below (va_Qv post (zk_B D b0) (zk_A b0)) args s 0 0 (zk_A b0)) P 2 [(0, va_rf (a0)), (1, .int (a1)), (2, .int (a2)), (3, .int (a3))] [] := by
  intro n
  induction n with
  | zero => intro _ _ h; exact h.elim
  | succ n ih =>
    intro a3 P h
    exact kb_X1_moves_2 X  (fun u0 u1 h => ih _ _ h)  h
theorem md_X1_moves : yX1_moves.cls ≠ "java/lang/invoke/MethodHandle" ∧ yX1_moves.cls ≠ "java/lang/invoke/VarHandle" ∧ (parseMethodDescriptor yX1_moves.desc).map (fun d => d.parameters.length) = some 2 := by decide +kernel
theorem wk_X1_moves (l : Launch) {D : zk_G} {g : zk_M} {b0 : Nat} {post : zk_H → Prop} {this : Nat} {x1 : Int32} {x2 : Int32} {P : zk_H} (hh : wp_X1_moves post this x1 x2 P) : Met l yX1_moves (ws_ yX1_moves cX1_moves 5 none) ({ frames := 4, cells := 0, slots := 0, locals := 85 } : Room) (va_Pc [.ref this, .int (x1), .int (x2)] (zk_pre D g b0 P)) (va_Qv post (zk_B D b0) (zk_A b0)) 0 0 (zk_A b0) := by
  refine zk_enter "LandFolio$Folio" "moves" rfl rfl (plainFor_of_name (by decide)) [.ref this, .int (x1), .int (x2)] (Nat.le_of_ble_eq_true rfl) ?_
  intro p e s m args below meth c X
  refine zk_at0 (L' := [(0, va_rf (some this)), (1, .int (x1)), (2, .int (x2))]) (rfl) ?_
  have h := hh
  unfold wp_X1_moves at h
  refine zv_iconst X (v := 0) dX1_moves_0 rfl ?_
  refine zv_istore_n X (i := 3) (L' := [(3, .int (0)), (0, va_rf (some this)), (1, .int (x1)), (2, .int (x2))]) dX1_moves_1 rfl (by decide) rfl ?_
  refine zv_sub (L' := [(0, va_rf (some this)), (1, .int (x1)), (2, .int (x2)), (3, .int (0))]) [1, 2, 3, 0] rfl ?_
  obtain ⟨n1, h⟩ := h
  exact kl_X1_moves_2 X  n1 _ _ h
theorem kb_X1_goes_14 {p : Program} {l : Launch} {e : Env} {s : State} {m : MethodId} {args : Array Value} {below : List Frame} {meth : Method} {c : Code} {D : zk_G} {g : zk_M} {b0 : Nat} (X : zk_X p s m args meth c D g b0 cX1_goes 3 "LandFolio$Folio" "goes" none) {post : zk_H → Prop}  {K14 : Int32 → zk_H → Prop} {a0 : Option Nat} {a1 : Int32} {a2 : Int32} {P : zk_H}   (hK14 : ∀ (u2 : Int32) (U : zk_H), K14 u2 U → zV p l e ({ frames := 4, cells := 0, slots := 0, locals := 85 } : Room) s m args below meth c D b0 3 (0) (0) (MQ below (va_Qv post (zk_B D b0) (zk_A b0)) args s 0 0 (zk_A b0)) U 14 [(0, va_rf (a0)), (1, .int (a1)), (2, .int (u2))] [])  (hh : wb_X1_goes_14 post a0 a1 K14 a2 P) : zV p l e ({ frames := 4, cells := 0, slots := 0, locals := 85 } : Room) s m args below meth c D b0 3 (0) (0) (MQ below (va_Qv post (zk_B D b0) (zk_A b0)) args s 0 0 (zk_A b0)) P 14 [(0, va_rf (a0)), (1, .int (a1)), (2, .int (a2))] [] := by
  have h := hh
  unfold wb_X1_goes_14 at h
  refine zv_iload_n X 2 dX1_goes_14 rfl ?_
  refine zv_aload_n X 0 dX1_goes_15 rfl ?_
  refine zv_getf_r X fo_q199 dX1_goes_16 h (fun v16 h => ?_)
  refine zv_ciR ((zr_Vl X (As := []) (rest := [.int (a2)]) h (fun a h => wk_J2_size l h) (zk_l1 ⟨_, rfl, cwV 0 X.hts (lw_V q361 q362 q363 q106 q364) rfl rfl rfl ⟨rfl, md_J2_size⟩ ⟨Nat.le_of_ble_eq_true rfl, Nat.le_of_ble_eq_true rfl⟩⟩) rfl rfl (zk_rs (Nat.le_of_ble_eq_true rfl)) dX1_goes_19 ⟨by first | exact Nat.le_of_ble_eq_true rfl | omega | (dsimp only; omega), by first | exact Nat.le_of_ble_eq_true rfl | omega | (dsimp only; omega)⟩)) (fun v19 h => ?_)
  refine zv_icmp_ge X (tgt := 43) dX1_goes_22 (by decide) h (fun h => ?_) (fun h => ?_)
  · exact zv_vret X rfl (by first | exact Nat.le_of_ble_eq_true rfl | omega | (dsimp only; omega)) (by first | exact Nat.le_of_ble_eq_true rfl | omega | (dsimp only; omega)) dX1_goes_43 h
  · refine zv_aload_n X 0 dX1_goes_25 rfl ?_
    refine zv_iload_n X 2 dX1_goes_26 rfl ?_
    refine zv_cqR ((zr_Vl X (As := [.int (a2)]) (rest := []) h (fun a h => wk_X1_burden l h) (zk_l1 ⟨_, rfl, cwV 1 X.hts (lw_V q525 q526 q527 q103 q528) rfl rfl rfl ⟨rfl, md_X1_burden⟩ ⟨Nat.le_of_ble_eq_true rfl, Nat.le_of_ble_eq_true rfl⟩⟩) rfl rfl (zk_rs (Nat.le_of_ble_eq_true rfl)) dX1_goes_27 ⟨by first | exact Nat.le_of_ble_eq_true rfl | omega | (dsimp only; omega), by first | exact Nat.le_of_ble_eq_true rfl | omega | (dsimp only; omega)⟩)) (fun v27 h => ?_)
    refine zv_getf_r X fo_q600 dX1_goes_30 h (fun v30 h => ?_)
    refine zv_iload_n X 1 dX1_goes_33 rfl ?_
    refine zv_cv ((zr_Vl X (As := [.int (a1)]) (rest := []) h (fun a h => wk_J16_clear l h) (zk_l1 ⟨_, rfl, cwV 1 X.hts (lw_V q1237 q1238 q1239 q126 q1240) rfl rfl rfl ⟨rfl, md_J16_clear⟩ ⟨Nat.le_of_ble_eq_true rfl, Nat.le_of_ble_eq_true rfl⟩⟩) rfl rfl (zk_rs (Nat.le_of_ble_eq_true rfl)) dX1_goes_34 ⟨by first | exact Nat.le_of_ble_eq_true rfl | omega | (dsimp only; omega), by first | exact Nat.le_of_ble_eq_true rfl | omega | (dsimp only; omega)⟩)) (fun P34 h => ?_)
    obtain ⟨v37, e37, h⟩ := zt_e h
    refine zv_iinc X (v := v37) (L' := [(2, .int (v37)), (0, va_rf (a0)), (1, .int (a1))]) 2 dX1_goes_37 rfl e37 (by decide) rfl ?_
    refine zv_goto X (tgt := 14) dX1_goes_40 (by decide) ?_
    refine zv_sub (L' := [(0, va_rf (a0)), (1, .int (a1)), (2, .int (v37))]) [1, 2, 0] rfl ?_
    exact hK14 _ _ h
theorem kl_X1_goes_14 {p : Program} {l : Launch} {e : Env} {s : State} {m : MethodId} {args : Array Value} {below : List Frame} {meth : Method} {c : Code} {D : zk_G} {g : zk_M} {b0 : Nat} (X : zk_X p s m args meth c D g b0 cX1_goes 3 "LandFolio$Folio" "goes" none) {post : zk_H → Prop}  {a0 : Option Nat} {a1 : Int32}   : ∀ (n : Nat) (a2 : Int32) (P : zk_H), wl_X1_goes_14 post a0 a1 n a2 P → zV p l e ({ frames := 4, cells := 0, slots := 0, locals := 85 } : Room) s m args below meth c D b0 3 (0) (0) (MQ below (va_Qv post (zk_B D b0) (zk_A b0)) args s 0 0 (zk_A b0)) P 14 [(0, va_rf (a0)), (1, .int (a1)), (2, .int (a2))] [] := by
  intro n
  induction n with
  | zero => intro _ _ h; exact h.elim
  | succ n ih =>
    intro a2 P h
    exact kb_X1_goes_14 X  (fun u0 u1 h => ih _ _ h)  h
theorem md_X1_goes : yX1_goes.cls ≠ "java/lang/invoke/MethodHandle" ∧ yX1_goes.cls ≠ "java/lang/invoke/VarHandle" ∧ (parseMethodDescriptor yX1_goes.desc).map (fun d => d.parameters.length) = some 1 := by decide +kernel
theorem wk_X1_goes (l : Launch) {D : zk_G} {g : zk_M} {b0 : Nat} {post : zk_H → Prop} {this : Nat} {x1 : Int32} {P : zk_H} (hh : wp_X1_goes post this x1 P) : Met l yX1_goes (ws_ yX1_goes cX1_goes 3 none) ({ frames := 4, cells := 0, slots := 0, locals := 85 } : Room) (va_Pc [.ref this, .int (x1)] (zk_pre D g b0 P)) (va_Qv post (zk_B D b0) (zk_A b0)) 0 0 (zk_A b0) := by
  refine zk_enter "LandFolio$Folio" "goes" rfl rfl (plainFor_of_name (by decide)) [.ref this, .int (x1)] (Nat.le_of_ble_eq_true rfl) ?_
  intro p e s m args below meth c X
  refine zk_at0 (L' := [(0, va_rf (some this)), (1, .int (x1))]) (rfl) ?_
  have h := hh
  unfold wp_X1_goes at h
  refine zv_aload_n X 0 dX1_goes_0 rfl ?_
  refine zv_iload_n X 1 dX1_goes_1 rfl ?_
  refine zv_cqR ((zr_Vl X (As := [.int (x1)]) (rest := []) h (fun a h => wk_X1_parcel l h) (zk_l1 ⟨_, rfl, cwV 1 X.hts (lw_V q501 q502 q503 q103 q504) rfl rfl rfl ⟨rfl, md_X1_parcel⟩ ⟨Nat.le_of_ble_eq_true rfl, Nat.le_of_ble_eq_true rfl⟩⟩) rfl rfl (zk_rs (Nat.le_of_ble_eq_true rfl)) dX1_goes_2 ⟨by first | exact Nat.le_of_ble_eq_true rfl | omega | (dsimp only; omega), by first | exact Nat.le_of_ble_eq_true rfl | omega | (dsimp only; omega)⟩)) (fun v2 h => ?_)
  refine zv_aload_n X 0 dX1_goes_5 rfl ?_
  refine zv_getf_i X fo_q189 dX1_goes_6 h (fun v6 h => ?_)
  refine zv_put_i X fp_q327 (fun z => by cases z) dX1_goes_9 h (fun P9 h => ?_)
  refine zv_iconst X (v := 0) dX1_goes_12 rfl ?_
  refine zv_istore_n X (i := 2) (L' := [(2, .int (0)), (0, va_rf (some this)), (1, .int (x1))]) dX1_goes_13 rfl (by decide) rfl ?_
  refine zv_sub (L' := [(0, va_rf (some this)), (1, .int (x1)), (2, .int (0))]) [1, 2, 0] rfl ?_
  obtain ⟨n13, h⟩ := h
  exact kl_X1_goes_14 X  n13 _ _ h
