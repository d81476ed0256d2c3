/-! walks, printed by gen/run.py -/
theorem md_X0_join : yX0_join.cls ≠ "java/lang/invoke/MethodHandle" ∧ yX0_join.cls ≠ "java/lang/invoke/VarHandle" ∧ (parseMethodDescriptor yX0_join.desc).map (fun d => d.parameters.length) = some 2 := by decide +kernel
theorem wk_X0_join (l : Launch) {D : zk_G} {g : zk_M} {b0 : Nat} {post : Int32 → zk_H → Prop} {this : Nat} {x1 : Int32} {x2 : Int32} {P : zk_H} (hh : wp_X0_join g post this x1 x2 P) : Met l yX0_join (ws_ yX0_join cX0_join 5 (some Jvm.ClassFile.FieldType.int)) ({ frames := 9, cells := 186, slots := 7446, locals := 222 } : Room) (va_Pc [.ref this, .int (x1), .int (x2)] (zk_pre D g b0 P)) (va_Qi post (zk_B D b0) (zk_A b0)) 186 7446 (zk_A b0) := by
  refine zk_enter "LandFolio" "join" rfl rfl (plainFor_of_name (by decide)) [.ref this, .int (x1), .int (x2)] (Nat.le_of_ble_eq_true rfl) ?_
  intro p e s m args below meth c X
  refine zk_at0 (L' := [(0, va_rf (some this)), (1, .int (x1)), (2, .int (x2))]) (rfl) ?_
  have h := hh
  unfold wp_X0_join at h
  refine zv_aload_n X 0 dX0_join_0 rfl ?_
  refine zv_iload_n X 1 dX0_join_1 rfl ?_
  refine zv_ciR ((zr_Vl X (As := [.int (x1)]) (rest := []) h (fun a h => wk_X0_isParcel l h) (zk_l1 ⟨_, rfl, cwV 1 X.hts (lw_V q1364 q1366 qs33 q102 q1367) rfl rfl rfl ⟨rfl, md_X0_isParcel⟩ ⟨Nat.le_of_ble_eq_true rfl, Nat.le_of_ble_eq_true rfl⟩⟩) rfl rfl (zk_rs (Nat.le_of_ble_eq_true rfl)) dX0_join_2 ⟨by first | exact Nat.le_of_ble_eq_true rfl | omega | (dsimp only; omega), by first | exact Nat.le_of_ble_eq_true rfl | omega | (dsimp only; omega)⟩)) (fun v2 h => ?_)
  refine zv_if_eq X (tgt := 21) dX0_join_5 (by decide) h (fun h => ?_) (fun h => ?_)
  · refine zv_iconst X (v := -1) dX0_join_21 rfl ?_
    exact zv_iret X rfl (by first | exact Nat.le_of_ble_eq_true rfl | omega | (dsimp only; omega)) (by first | exact Nat.le_of_ble_eq_true rfl | omega | (dsimp only; omega)) dX0_join_22 h
  · refine zv_aload_n X 0 dX0_join_8 rfl ?_
    refine zv_iload_n X 2 dX0_join_9 rfl ?_
    refine zv_ciR ((zr_Vl X (As := [.int (x2)]) (rest := []) h (fun a h => wk_X0_isParcel l h) (zk_l1 ⟨_, rfl, cwV 1 X.hts (lw_V q1364 q1366 qs33 q102 q1367) rfl rfl rfl ⟨rfl, md_X0_isParcel⟩ ⟨Nat.le_of_ble_eq_true rfl, Nat.le_of_ble_eq_true rfl⟩⟩) rfl rfl (zk_rs (Nat.le_of_ble_eq_true rfl)) dX0_join_10 ⟨by first | exact Nat.le_of_ble_eq_true rfl | omega | (dsimp only; omega), by first | exact Nat.le_of_ble_eq_true rfl | omega | (dsimp only; omega)⟩)) (fun v10 h => ?_)
    refine zv_if_eq X (tgt := 21) dX0_join_13 (by decide) h (fun h => ?_) (fun h => ?_)
    · refine zv_iconst X (v := -1) dX0_join_21 rfl ?_
      exact zv_iret X rfl (by first | exact Nat.le_of_ble_eq_true rfl | omega | (dsimp only; omega)) (by first | exact Nat.le_of_ble_eq_true rfl | omega | (dsimp only; omega)) dX0_join_22 h
    · refine zv_iload_n X 1 dX0_join_16 rfl ?_
      refine zv_iload_n X 2 dX0_join_17 rfl ?_
      refine zv_icmp_ne X (tgt := 23) dX0_join_18 (by decide) h (fun h => ?_) (fun h => ?_)
      · refine zv_aload_n X 0 dX0_join_23 rfl ?_
        refine zv_iload_n X 1 dX0_join_24 rfl ?_
        refine zv_iload_n X 2 dX0_join_25 rfl ?_
        refine zv_ci ((zr_Vl X (As := [.int (x1), .int (x2)]) (rest := []) h (fun a h => wk_X0_whyNot l h) (zk_l1 ⟨_, rfl, cwV 2 X.hts (lw_V q1384 q1385 q1386 q102 q1387) rfl rfl rfl ⟨rfl, md_X0_whyNot⟩ ⟨Nat.le_of_ble_eq_true rfl, Nat.le_of_ble_eq_true rfl⟩⟩) rfl rfl (zk_rs (Nat.le_of_ble_eq_true rfl)) dX0_join_26 ⟨by first | exact Nat.le_of_ble_eq_true rfl | omega | (dsimp only; omega), by first | exact Nat.le_of_ble_eq_true rfl | omega | (dsimp only; omega)⟩)) (fun v26 P26 h => ?_)
        refine zv_if_eq X (tgt := 35) dX0_join_29 (by decide) h (fun h => ?_) (fun h => ?_)
        · refine zv_aload_n X 0 dX0_join_35 rfl ?_
          refine zv_getf_r X fo_q402 dX0_join_36 h (fun v36 h => ?_)
          refine zv_getf_r X fo_q195 dX0_join_39 h (fun v39 h => ?_)
          refine zv_ciR ((zr_Vl X (As := []) (rest := []) h (fun a h => wk_J2_size l h) (zk_l1 ⟨_, rfl, cwV 0 X.hts (lw_V q672 q362 q363 q106 q364) rfl rfl rfl ⟨rfl, md_J2_size⟩ ⟨Nat.le_of_ble_eq_true rfl, Nat.le_of_ble_eq_true rfl⟩⟩) rfl rfl (zk_rs (Nat.le_of_ble_eq_true rfl)) dX0_join_42 ⟨by first | exact Nat.le_of_ble_eq_true rfl | omega | (dsimp only; omega), by first | exact Nat.le_of_ble_eq_true rfl | omega | (dsimp only; omega)⟩)) (fun v42 h => ?_)
          refine zv_bipush X (v := 40) dX0_join_45 rfl ?_
          refine zv_icmp_eq X (tgt := 65) dX0_join_47 (by decide) h (fun h => ?_) (fun h => ?_)
          · refine zv_bipush X (v := -3) dX0_join_65 rfl ?_
            exact zv_iret X rfl (by first | exact Nat.le_of_ble_eq_true rfl | omega | (dsimp only; omega)) (by first | exact Nat.le_of_ble_eq_true rfl | omega | (dsimp only; omega)) dX0_join_67 h
          · refine zv_aload_n X 0 dX0_join_50 rfl ?_
            refine zv_getf_r X fo_q402 dX0_join_51 h (fun v51 h => ?_)
            refine zv_getf_r X fo_q198 dX0_join_54 h (fun v54 h => ?_)
            refine zv_ciR ((zr_Vl X (As := []) (rest := []) h (fun a h => wk_J2_size l h) (zk_l1 ⟨_, rfl, cwV 0 X.hts (lw_V q672 q362 q363 q106 q364) rfl rfl rfl ⟨rfl, md_J2_size⟩ ⟨Nat.le_of_ble_eq_true rfl, Nat.le_of_ble_eq_true rfl⟩⟩) rfl rfl (zk_rs (Nat.le_of_ble_eq_true rfl)) dX0_join_57 ⟨by first | exact Nat.le_of_ble_eq_true rfl | omega | (dsimp only; omega), by first | exact Nat.le_of_ble_eq_true rfl | omega | (dsimp only; omega)⟩)) (fun v57 h => ?_)
            refine zv_bipush X (v := 60) dX0_join_60 rfl ?_
            refine zv_icmp_ne X (tgt := 68) dX0_join_62 (by decide) h (fun h => ?_) (fun h => ?_)
            · refine zv_aload_n X 0 dX0_join_68 rfl ?_
              refine zv_getf_r X fo_q402 dX0_join_69 h (fun v69 h => ?_)
              refine zv_cq ((zr_Vl X (As := []) (rest := []) h (fun a h => wk_X1_copied l h) (zk_l1 ⟨_, rfl, cwV 0 X.hts (lw_V q465 q466 q467 q103 q468) rfl rfl rfl ⟨rfl, md_X1_copied⟩ ⟨Nat.le_of_ble_eq_true rfl, Nat.le_of_ble_eq_true rfl⟩⟩) rfl rfl (zk_rs (Nat.le_of_ble_eq_true rfl)) dX0_join_72 ⟨by first | exact Nat.le_of_ble_eq_true rfl | omega | (dsimp only; omega), by first | exact Nat.le_of_ble_eq_true rfl | omega | (dsimp only; omega)⟩)) (fun v72 P72 h => ?_)
              refine zv_astore_n X (i := 3) (L' := [(3, va_rf (v72)), (0, va_rf (some this)), (1, .int (x1)), (2, .int (x2))]) dX0_join_75 rfl (by decide) rfl ?_
              refine zv_aload_n X 1 dX0_join_76 rfl ?_
              refine zv_getf_r X fo_q402 dX0_join_77 h (fun v77 h => ?_)
              refine zv_iload_n X 2 dX0_join_80 rfl ?_
              refine zv_iload_n X 3 dX0_join_81 rfl ?_
              refine zv_ci ((zr_Vl X (As := [.int (x1), .int (x2)]) (rest := []) h (fun a h => wk_X1_joins l h) (zk_l1 ⟨_, rfl, cwV 2 X.hts (lw_V q1449 q1450 q1451 q103 q1452) rfl rfl rfl ⟨rfl, md_X1_joins⟩ ⟨Nat.le_of_ble_eq_true rfl, Nat.le_of_ble_eq_true rfl⟩⟩) rfl rfl (zk_rs (Nat.le_of_ble_eq_true rfl)) dX0_join_82 ⟨by first | exact Nat.le_of_ble_eq_true rfl | omega | (dsimp only; omega), by first | exact Nat.le_of_ble_eq_true rfl | omega | (dsimp only; omega)⟩)) (fun v82 P82 h => ?_)
              refine zv_istore X (L' := [(4, .int (v82)), (3, va_rf (v72)), (0, va_rf (some this)), (1, .int (x1)), (2, .int (x2))]) dX0_join_85 (by decide) (by simp [zk_s1, zk_s2, zk_rc, zk_ic, zk_jc]) ?_
              refine zv_aload_n X 2 dX0_join_87 rfl ?_
              refine zv_getf_r X fo_q402 dX0_join_88 h (fun v88 h => ?_)
              refine zv_iconst X (v := 2) dX0_join_91 rfl ?_
              refine zv_iload_n X 3 dX0_join_92 rfl ?_
              refine zv_iload_n X 4 dX0_join_93 rfl ?_
              refine zv_mmin X q1455 ⟨by first | decide | (dsimp only; decide), by first | decide | (dsimp only; decide)⟩ (zk_rs (Nat.le_of_ble_eq_true rfl)) (by first | exact Nat.le_of_ble_eq_true rfl | dsimp only; omega) (by first | exact Nat.le_of_ble_eq_true rfl | dsimp only; omega) dX0_join_94 ?_
              refine zv_iload X 0 dX0_join_97 rfl ?_
              refine zv_cv ((zr_Vl X (As := [.int (2), .int (zk_min x1 x2), .int (v82)]) (rest := []) h (fun a h => wk_X1_logs l h) (zk_l1 ⟨_, rfl, cwV 3 X.hts (lw_V q1318 q1319 q1320 q103 q1321) rfl rfl rfl ⟨rfl, md_X1_logs⟩ ⟨Nat.le_of_ble_eq_true rfl, Nat.le_of_ble_eq_true rfl⟩⟩) rfl rfl (zk_rs (Nat.le_of_ble_eq_true rfl)) dX0_join_99 ⟨by first | exact Nat.le_of_ble_eq_true rfl | omega | (dsimp only; omega), by first | exact Nat.le_of_ble_eq_true rfl | omega | (dsimp only; omega)⟩)) (fun P99 h => ?_)
              refine zv_aload_n X 2 dX0_join_102 rfl ?_
              refine zv_aload_n X 1 dX0_join_103 rfl ?_
              refine zv_iload X 0 dX0_join_104 rfl ?_
              refine zv_ci ((zr_Vl X (As := [va_rf (v72), .int (v82)]) (rest := []) h (fun a h => wk_X0_done l h) (zk_l1 ⟨_, rfl, cwV 2 X.hts (lw_V q677 q679 qs7 q102 q680) rfl rfl rfl ⟨rfl, md_X0_done⟩ ⟨Nat.le_of_ble_eq_true rfl, Nat.le_of_ble_eq_true rfl⟩⟩) rfl rfl (zk_rs (Nat.le_of_ble_eq_true rfl)) dX0_join_106 ⟨by first | exact Nat.le_of_ble_eq_true rfl | omega | (dsimp only; omega), by first | exact Nat.le_of_ble_eq_true rfl | omega | (dsimp only; omega)⟩)) (fun v106 P106 h => ?_)
              exact zv_iret X rfl (by first | exact Nat.le_of_ble_eq_true rfl | omega | (dsimp only; omega)) (by first | exact Nat.le_of_ble_eq_true rfl | omega | (dsimp only; omega)) dX0_join_109 h
            · refine zv_bipush X (v := -3) dX0_join_65 rfl ?_
              exact zv_iret X rfl (by first | exact Nat.le_of_ble_eq_true rfl | omega | (dsimp only; omega)) (by first | exact Nat.le_of_ble_eq_true rfl | omega | (dsimp only; omega)) dX0_join_67 h
        · refine zv_bipush X (v := -4) dX0_join_32 rfl ?_
          exact zv_iret X rfl (by first | exact Nat.le_of_ble_eq_true rfl | omega | (dsimp only; omega)) (by first | exact Nat.le_of_ble_eq_true rfl | omega | (dsimp only; omega)) dX0_join_34 h
      · refine zv_iconst X (v := -1) dX0_join_21 rfl ?_
        exact zv_iret X rfl (by first | exact Nat.le_of_ble_eq_true rfl | omega | (dsimp only; omega)) (by first | exact Nat.le_of_ble_eq_true rfl | omega | (dsimp only; omega)) dX0_join_22 h
theorem kj_X0_joinable_74 {p : Program} {l : Launch} {e : Env} {s : State} {m : MethodId} {args : Array Value} {below : List Frame} {meth : Method} {c : Code} {D : zk_G} {g : zk_M} {b0 : Nat} (X : zk_X p s m args meth c D g b0 cX0_joinable 6 "LandFolio" "joinable" (some Jvm.ClassFile.FieldType.int)) {post : Int32 → zk_H → Prop} {K19 : Int32 → Int32 → zk_H → Prop} {a0 : Option Nat} {a1 : Int32} {a4 : Int32} {s0 : Int32} {s1 : Int32} {P : zk_H} {c0 c1 : Nat} (hK19 : ∀ (u3 : Int32) (u4 : Int32) (U : zk_H), K19 u3 u4 U → zV p l e ({ frames := 7, cells := 41, slots := 246, locals := 159 } : Room) s m args below meth c D b0 6 (c0 + 1) (c1 + 6) (MQ below (va_Qi post (zk_B D b0) (zk_A b0)) args s 41 246 (zk_A b0)) U 19 [(0, va_rf (a0)), (1, .int (a1)), (3, .int (u3)), (4, .int (u4))] []) (hc0 : c0 + 1 ≤ 41) (hc1 : c1 + 6 ≤ 246) (hh : wj_X0_joinable_74 g post K19 a0 a1 a4 s0 s1 P) : zV p l e ({ frames := 7, cells := 41, slots := 246, locals := 159 } : Room) s m args below meth c D b0 6 (c0 + 1) (c1 + 6) (MQ below (va_Qi post (zk_B D b0) (zk_A b0)) args s 41 246 (zk_A b0)) P 74 [(0, va_rf (a0)), (1, .int (a1)), (4, .int (a4))] [.int (s0), .int (s1)] := by
  have h := hh
  unfold wj_X0_joinable_74 at h
  refine zv_isub X dX0_joinable_74 ?_
  refine zv_top_i h (fun v75 h => ?_)
  refine zv_istore_n X (i := 3) (L' := [(3, .int (v75)), (0, va_rf (a0)), (1, .int (a1)), (4, .int (a4))]) dX0_joinable_75 rfl (by decide) rfl ?_
  obtain ⟨v76, e76, h⟩ := zt_e h
  refine zv_iinc X (v := v76) (L' := [(4, .int (v76)), (3, .int (v75)), (0, va_rf (a0)), (1, .int (a1))]) 3 dX0_joinable_76 rfl e76 (by decide) rfl ?_
  refine zv_goto X (tgt := 19) dX0_joinable_79 (by decide) ?_
  refine zv_sub (L' := [(0, va_rf (a0)), (1, .int (a1)), (3, .int (v75)), (4, .int (v76))]) [2, 3, 1, 0] rfl ?_
  refine zv_widen (c2 := c0 + 1) (s2 := c1 + 6) (by omega) (by omega) ?_
  exact hK19 _ _ _ h
theorem kj_X0_joinable_63 {p : Program} {l : Launch} {e : Env} {s : State} {m : MethodId} {args : Array Value} {below : List Frame} {meth : Method} {c : Code} {D : zk_G} {g : zk_M} {b0 : Nat} (X : zk_X p s m args meth c D g b0 cX0_joinable 6 "LandFolio" "joinable" (some Jvm.ClassFile.FieldType.int)) {post : Int32 → zk_H → Prop} {K19 : Int32 → Int32 → zk_H → Prop} {a0 : Option Nat} {a1 : Int32} {a3 : Int32} {a4 : Int32} {a5 : Int32} {P : zk_H} {c0 c1 : Nat} (hK19 : ∀ (u3 : Int32) (u4 : Int32) (U : zk_H), K19 u3 u4 U → zV p l e ({ frames := 7, cells := 41, slots := 246, locals := 159 } : Room) s m args below meth c D b0 6 (c0 + 1) (c1 + 6) (MQ below (va_Qi post (zk_B D b0) (zk_A b0)) args s 41 246 (zk_A b0)) U 19 [(0, va_rf (a0)), (1, .int (a1)), (3, .int (u3)), (4, .int (u4))] []) (hc0 : c0 + 1 ≤ 41) (hc1 : c1 + 6 ≤ 246) (hh : wj_X0_joinable_63 g post K19 a0 a1 a3 a4 a5 P) : zV p l e ({ frames := 7, cells := 41, slots := 246, locals := 159 } : Room) s m args below meth c D b0 6 (c0 + 1) (c1 + 6) (MQ below (va_Qi post (zk_B D b0) (zk_A b0)) args s 41 246 (zk_A b0)) P 63 [(0, va_rf (a0)), (1, .int (a1)), (3, .int (a3)), (4, .int (a4)), (5, .int (a5))] [] := by
  have h := hh
  unfold wj_X0_joinable_63 at h
  refine zv_iload_n X 2 dX0_joinable_63 rfl ?_
  refine zv_iload X 4 dX0_joinable_64 rfl ?_
  refine zv_if_eq X (tgt := 73) dX0_joinable_66 (by decide) h (fun h => ?_) (fun h => ?_)
  · refine zv_iconst X (v := 0) dX0_joinable_73 rfl ?_
    refine zv_sub (L' := [(0, va_rf (a0)), (1, .int (a1)), (4, .int (a4))]) [0, 1, 3] rfl ?_
    refine zv_widen (c2 := c0 + 1) (s2 := c1 + 6) (by first | exact Nat.le_of_ble_eq_true rfl | omega | (dsimp only; omega)) (by first | exact Nat.le_of_ble_eq_true rfl | omega | (dsimp only; omega)) ?_
    exact kj_X0_joinable_74 X hK19 hc0 hc1 h
  · refine zv_iconst X (v := 1) dX0_joinable_69 rfl ?_
    refine zv_goto X (tgt := 74) dX0_joinable_70 (by decide) ?_
    refine zv_sub (L' := [(0, va_rf (a0)), (1, .int (a1)), (4, .int (a4))]) [0, 1, 3] rfl ?_
    refine zv_widen (c2 := c0 + 1) (s2 := c1 + 6) (by first | exact Nat.le_of_ble_eq_true rfl | omega | (dsimp only; omega)) (by first | exact Nat.le_of_ble_eq_true rfl | omega | (dsimp only; omega)) ?_
    exact kj_X0_joinable_74 X hK19 hc0 hc1 h
theorem kj_X0_joinable_49 {p : Program} {l : Launch} {e : Env} {s : State} {m : MethodId} {args : Array Value} {below : List Frame} {meth : Method} {c : Code} {D : zk_G} {g : zk_M} {b0 : Nat} (X : zk_X p s m args meth c D g b0 cX0_joinable 6 "LandFolio" "joinable" (some Jvm.ClassFile.FieldType.int)) {post : Int32 → zk_H → Prop} {K19 : Int32 → Int32 → zk_H → Prop} {a0 : Option Nat} {a1 : Int32} {a3 : Int32} {a4 : Int32} {s0 : Int32} {P : zk_H} {c0 c1 : Nat} (hK19 : ∀ (u3 : Int32) (u4 : Int32) (U : zk_H), K19 u3 u4 U → zV p l e ({ frames := 7, cells := 41, slots := 246, locals := 159 } : Room) s m args below meth c D b0 6 (c0 + 1) (c1 + 6) (MQ below (va_Qi post (zk_B D b0) (zk_A b0)) args s 41 246 (zk_A b0)) U 19 [(0, va_rf (a0)), (1, .int (a1)), (3, .int (u3)), (4, .int (u4))] []) (hc0 : c0 + 1 ≤ 41) (hc1 : c1 + 6 ≤ 246) (hh : wj_X0_joinable_49 g post K19 a0 a1 a3 a4 s0 P) : zV p l e ({ frames := 7, cells := 41, slots := 246, locals := 159 } : Room) s m args below meth c D b0 6 (c0 + 1) (c1 + 6) (MQ below (va_Qi post (zk_B D b0) (zk_A b0)) args s 41 246 (zk_A b0)) P 49 [(0, va_rf (a0)), (1, .int (a1)), (3, .int (a3)), (4, .int (a4))] [.int (s0)] := by
  have h := hh
  unfold wj_X0_joinable_49 at h
  refine zv_istore X (L' := [(5, .int (s0)), (0, va_rf (a0)), (1, .int (a1)), (3, .int (a3)), (4, .int (a4))]) dX0_joinable_49 (by decide) rfl ?_
  refine zv_iload X 0 dX0_joinable_51 rfl ?_
  refine zv_if_eq X (tgt := 63) dX0_joinable_53 (by decide) h (fun h => ?_) (fun h => ?_)
  · refine zv_sub (L' := [(0, va_rf (a0)), (1, .int (a1)), (3, .int (a3)), (4, .int (a4)), (5, .int (s0))]) [1, 2, 3, 4, 0] rfl ?_
    refine zv_widen (c2 := c0 + 1) (s2 := c1 + 6) (by first | exact Nat.le_of_ble_eq_true rfl | omega | (dsimp only; omega)) (by first | exact Nat.le_of_ble_eq_true rfl | omega | (dsimp only; omega)) ?_
    exact kj_X0_joinable_63 X hK19 hc0 hc1 h
  · refine zv_iload_n X 3 dX0_joinable_56 rfl ?_
    refine zv_if_ne X (tgt := 63) dX0_joinable_57 (by decide) h (fun h => ?_) (fun h => ?_)
    · refine zv_sub (L' := [(0, va_rf (a0)), (1, .int (a1)), (3, .int (a3)), (4, .int (a4)), (5, .int (s0))]) [1, 2, 3, 4, 0] rfl ?_
      refine zv_widen (c2 := c0 + 1) (s2 := c1 + 6) (by first | exact Nat.le_of_ble_eq_true rfl | omega | (dsimp only; omega)) (by first | exact Nat.le_of_ble_eq_true rfl | omega | (dsimp only; omega)) ?_
      exact kj_X0_joinable_63 X hK19 hc0 hc1 h
    · refine zv_iload X 4 dX0_joinable_60 rfl ?_
      exact zv_iret X rfl (by first | exact Nat.le_of_ble_eq_true rfl | omega | (dsimp only; omega)) (by first | exact Nat.le_of_ble_eq_true rfl | omega | (dsimp only; omega)) dX0_joinable_62 h
theorem kb_X0_joinable_19 {p : Program} {l : Launch} {e : Env} {s : State} {m : MethodId} {args : Array Value} {below : List Frame} {meth : Method} {c : Code} {D : zk_G} {g : zk_M} {b0 : Nat} (X : zk_X p s m args meth c D g b0 cX0_joinable 6 "LandFolio" "joinable" (some Jvm.ClassFile.FieldType.int)) {post : Int32 → zk_H → Prop}  {K19 : Int32 → Int32 → zk_H → Prop} {a0 : Option Nat} {a1 : Int32} {a3 : Int32} {a4 : Int32} {P : zk_H} {c0 c1 : Nat}  (hK19 : ∀ (u3 : Int32) (u4 : Int32) (U : zk_H), K19 u3 u4 U → zV p l e ({ frames := 7, cells := 41, slots := 246, locals := 159 } : Room) s m args below meth c D b0 6 (c0 + 1) (c1 + 6) (MQ below (va_Qi post (zk_B D b0) (zk_A b0)) args s 41 246 (zk_A b0)) U 19 [(0, va_rf (a0)), (1, .int (a1)), (3, .int (u3)), (4, .int (u4))] []) (hc0 : c0 + 1 ≤ 41) (hc1 : c1 + 6 ≤ 246) (hh : wb_X0_joinable_19 g post a0 a1 K19 a3 a4 P) : zV p l e ({ frames := 7, cells := 41, slots := 246, locals := 159 } : Room) s m args below meth c D b0 6 (c0) (c1) (MQ below (va_Qi post (zk_B D b0) (zk_A b0)) args s 41 246 (zk_A b0)) P 19 [(0, va_rf (a0)), (1, .int (a1)), (3, .int (a3)), (4, .int (a4))] [] := by
  have h := hh
  unfold wb_X0_joinable_19 at h
  refine zv_iload X 3 dX0_joinable_19 rfl ?_
  refine zv_aload_n X 0 dX0_joinable_21 rfl ?_
  refine zv_getf_r X fo_q402 dX0_joinable_22 h (fun v22 h => ?_)
  refine zv_getf_r X fo_q195 dX0_joinable_25 h (fun v25 h => ?_)
  refine zv_ciR ((zr_Vl X (As := []) (rest := [.int (a4)]) h (fun a h => wk_J2_size l h) (zk_l1 ⟨_, rfl, cwV 0 X.hts (lw_V q672 q362 q363 q106 q364) rfl rfl rfl ⟨rfl, md_J2_size⟩ ⟨Nat.le_of_ble_eq_true rfl, Nat.le_of_ble_eq_true rfl⟩⟩) rfl rfl (zk_rs (Nat.le_of_ble_eq_true rfl)) dX0_joinable_28 ⟨by first | exact Nat.le_of_ble_eq_true rfl | omega | (dsimp only; omega), by first | exact Nat.le_of_ble_eq_true rfl | omega | (dsimp only; omega)⟩)) (fun v28 h => ?_)
  refine zv_icmp_ge X (tgt := 82) dX0_joinable_31 (by decide) h (fun h => ?_) (fun h => ?_)
  · refine zv_bipush X (v := -2) dX0_joinable_82 rfl ?_
    exact zv_iret X rfl (by first | exact Nat.le_of_ble_eq_true rfl | omega | (dsimp only; omega)) (by first | exact Nat.le_of_ble_eq_true rfl | omega | (dsimp only; omega)) dX0_joinable_84 h
  · refine zv_aload_n X 0 dX0_joinable_34 rfl ?_
    refine zv_iload_n X 1 dX0_joinable_35 rfl ?_
    refine zv_iload X 3 dX0_joinable_36 rfl ?_
    refine zv_ci ((zr_Vl X (As := [.int (a1), .int (a4)]) (rest := []) h (fun a h => wk_X0_whyNot l h) (zk_l1 ⟨_, rfl, cwV 2 X.hts (lw_V q1384 q1385 q1386 q102 q1387) rfl rfl rfl ⟨rfl, md_X0_whyNot⟩ ⟨Nat.le_of_ble_eq_true rfl, Nat.le_of_ble_eq_true rfl⟩⟩) rfl rfl (zk_rs (Nat.le_of_ble_eq_true rfl)) dX0_joinable_38 ⟨by first | exact Nat.le_of_ble_eq_true rfl | omega | (dsimp only; omega), by first | exact Nat.le_of_ble_eq_true rfl | omega | (dsimp only; omega)⟩)) (fun v38 P38 h => ?_)
    refine zv_if_ne X (tgt := 48) dX0_joinable_41 (by decide) h (fun h => ?_) (fun h => ?_)
    · refine zv_iconst X (v := 0) dX0_joinable_48 rfl ?_
      refine zv_widen (c2 := c0 + 1) (s2 := c1 + 6) (by first | exact Nat.le_of_ble_eq_true rfl | omega | (dsimp only; omega)) (by first | exact Nat.le_of_ble_eq_true rfl | omega | (dsimp only; omega)) ?_
      exact kj_X0_joinable_49 X hK19 hc0 hc1 h
    · refine zv_iconst X (v := 1) dX0_joinable_44 rfl ?_
      refine zv_goto X (tgt := 49) dX0_joinable_45 (by decide) ?_
      refine zv_widen (c2 := c0 + 1) (s2 := c1 + 6) (by first | exact Nat.le_of_ble_eq_true rfl | omega | (dsimp only; omega)) (by first | exact Nat.le_of_ble_eq_true rfl | omega | (dsimp only; omega)) ?_
      exact kj_X0_joinable_49 X hK19 hc0 hc1 h
theorem kl_X0_joinable_19 {p : Program} {l : Launch} {e : Env} {s : State} {m : MethodId} {args : Array Value} {below : List Frame} {meth : Method} {c : Code} {D : zk_G} {g : zk_M} {b0 : Nat} (X : zk_X p s m args meth c D g b0 cX0_joinable 6 "LandFolio" "joinable" (some Jvm.ClassFile.FieldType.int)) {post : Int32 → zk_H → Prop}  {a0 : Option Nat} {a1 : Int32}   : ∀ (n c0 c1 : Nat), c0 + n * 1 ≤ 41 → c1 + n * 6 ≤ 246 → ∀ (a3 : Int32) (a4 : Int32) (P : zk_H), wl_X0_joinable_19 g post a0 a1 n a3 a4 P → zV p l e ({ frames := 7, cells := 41, slots := 246, locals := 159 } : Room) s m args below meth c D b0 6 (c0) (c1) (MQ below (va_Qi post (zk_B D b0) (zk_A b0)) args s 41 246 (zk_A b0)) P 19 [(0, va_rf (a0)), (1, .int (a1)), (3, .int (a3)), (4, .int (a4))] [] := by
  intro n
  induction n with
  | zero => intro c0 c1 _ _ _ _ _ h; exact h.elim
  | succ n ih =>
    intro c0 c1 hn0 hn1 a3 a4 P h
    exact kb_X0_joinable_19 X  (fun u0 u1 u2 h => ih _ _ (by omega) (by omega) _ _ _ h) (by omega) (by omega) h
theorem md_X0_joinable : yX0_joinable.cls ≠ "java/lang/invoke/MethodHandle" ∧ yX0_joinable.cls ≠ "java/lang/invoke/VarHandle" ∧ (parseMethodDescriptor yX0_joinable.desc).map (fun d => d.parameters.length) = some 2 := by decide +kernel
theorem wk_X0_joinable (l : Launch) {D : zk_G} {g : zk_M} {b0 : Nat} {post : Int32 → zk_H → Prop} {this : Nat} {x1 : Int32} {x2 : Int32} {P : zk_H} (hh : wp_X0_joinable g post this x1 x2 P) : Met l yX0_joinable (ws_ yX0_joinable cX0_joinable 6 (some Jvm.ClassFile.FieldType.int)) ({ frames := 7, cells := 41, slots := 246, locals := 159 } : Room) (va_Pc [.ref this, .int (x1), .int (x2)] (zk_pre D g b0 P)) (va_Qi post (zk_B D b0) (zk_A b0)) 41 246 (zk_A b0) := by
  refine zk_enter "LandFolio" "joinable" rfl rfl (plainFor_of_name (by decide)) [.ref this, .int (x1), .int (x2)] (Nat.le_of_ble_eq_true rfl) ?_
  intro p e s m args below meth c X
  refine zk_at0 (L' := [(0, va_rf (some this)), (1, .int (x1)), (2, .int (x2))]) (rfl) ?_
  have h := hh
  unfold wp_X0_joinable at h
  refine zv_aload_n X 0 dX0_joinable_0 rfl ?_
  refine zv_iload_n X 1 dX0_joinable_1 rfl ?_
  refine zv_ciR ((zr_Vl X (As := [.int (x1)]) (rest := []) h (fun a h => wk_X0_isParcel l h) (zk_l1 ⟨_, rfl, cwV 1 X.hts (lw_V q1364 q1366 qs33 q102 q1367) rfl rfl rfl ⟨rfl, md_X0_isParcel⟩ ⟨Nat.le_of_ble_eq_true rfl, Nat.le_of_ble_eq_true rfl⟩⟩) rfl rfl (zk_rs (Nat.le_of_ble_eq_true rfl)) dX0_joinable_2 ⟨by first | exact Nat.le_of_ble_eq_true rfl | omega | (dsimp only; omega), by first | exact Nat.le_of_ble_eq_true rfl | omega | (dsimp only; omega)⟩)) (fun v2 h => ?_)
  refine zv_if_eq X (tgt := 12) dX0_joinable_5 (by decide) h (fun h => ?_) (fun h => ?_)
  · refine zv_iconst X (v := -1) dX0_joinable_12 rfl ?_
    exact zv_iret X rfl (by first | exact Nat.le_of_ble_eq_true rfl | omega | (dsimp only; omega)) (by first | exact Nat.le_of_ble_eq_true rfl | omega | (dsimp only; omega)) dX0_joinable_13 h
  · refine zv_iload_n X 2 dX0_joinable_8 rfl ?_
    refine zv_if_ge X (tgt := 14) dX0_joinable_9 (by decide) h (fun h => ?_) (fun h => ?_)
    · refine zv_iload_n X 2 dX0_joinable_14 rfl ?_
      refine zv_istore_n X (i := 3) (L' := [(3, .int (x2)), (0, va_rf (some this)), (1, .int (x1)), (2, .int (x2))]) dX0_joinable_15 rfl (by decide) rfl ?_
      refine zv_iconst X (v := 0) dX0_joinable_16 rfl ?_
      refine zv_istore X (L' := [(4, .int (0)), (3, .int (x2)), (0, va_rf (some this)), (1, .int (x1)), (2, .int (x2))]) dX0_joinable_17 (by decide) rfl ?_
      refine zv_sub (L' := [(0, va_rf (some this)), (1, .int (x1)), (3, .int (x2)), (4, .int (0))]) [2, 3, 1, 0] rfl ?_
      refine zv_widen (c2 := 0) (s2 := 0) (by omega) (by omega) ?_
      exact kl_X0_joinable_19 X  41 _ _ (by omega) (by omega) _ _ _ h
    · refine zv_iconst X (v := -1) dX0_joinable_12 rfl ?_
      exact zv_iret X rfl (by first | exact Nat.le_of_ble_eq_true rfl | omega | (dsimp only; omega)) (by first | exact Nat.le_of_ble_eq_true rfl | omega | (dsimp only; omega)) dX0_joinable_13 h
