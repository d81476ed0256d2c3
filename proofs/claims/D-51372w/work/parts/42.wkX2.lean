/-! walks, printed by gen/run.py -/
theorem kj_X1_unsf_63 {p : Program} {l : Launch} {e : Env} {s : State} {m : MethodId} {args : Array Value} {below : List Frame} {meth : Method} {c : Code} {D : zk_G} {g : zk_M} {b0 : Nat} (X : zk_X p s m args meth c D g b0 cX1_unsf 5 "LandFolio$Folio" yX1_unsf.name (some Jvm.ClassFile.FieldType.int)) {post : Int32 → Prop} {K4 : Int32 → Int32 → Prop} {a0 : Option Nat} {a2 : Int32} {s0 : Int32} {s1 : Int32} {P : zk_H}  (hK4 : ∀ (u1 : Int32) (u2 : Int32), K4 u1 u2 → zV p l e ({ frames := 6, cells := 0, slots := 0, locals := 135 } : Room) s m args below meth c D b0 5 (0) (0) (MQ below (va_Qi (fun r u => post r ∧ u = P) (zk_B D b0) (zk_A b0)) args s 0 0 (zk_A b0)) P 4 [(0, va_rf (a0)), (1, .int (u1)), (2, .int (u2))] [])  (hh : wj_X1_unsf_63 post K4 a0 a2 s0 s1 P) : zV p l e ({ frames := 6, cells := 0, slots := 0, locals := 135 } : Room) s m args below meth c D b0 5 (0) (0) (MQ below (va_Qi (fun r u => post r ∧ u = P) (zk_B D b0) (zk_A b0)) args s 0 0 (zk_A b0)) P 63 [(0, va_rf (a0)), (2, .int (a2))] [.int (s0), .int (s1)] := by
  have h := hh
  unfold wj_X1_unsf_63 at h
  refine zv_iadd X dX1_unsf_63 ?_
  refine zv_top_i h (fun v64 h => ?_)
  refine zv_istore_n X (i := 1) (L' := [(1, .int (v64)), (0, va_rf (a0)), (2, .int (a2))]) dX1_unsf_64 rfl (by decide) (by simp [zk_s1, zk_s2, zk_rc, zk_ic, zk_jc]) ?_
  obtain ⟨v65, e65, h⟩ := zt_e h
  refine zv_iinc X (v := v65) (L' := [(2, .int (v65)), (1, .int (v64)), (0, va_rf (a0))]) 2 dX1_unsf_65 rfl e65 (by decide) rfl ?_
  refine zv_goto X (tgt := 4) dX1_unsf_68 (by decide) ?_
  refine zv_sub (L' := [(0, va_rf (a0)), (1, .int (v64)), (2, .int (v65))]) [2, 1, 0] rfl ?_
  exact hK4 _ _ h
theorem kj_X1_unsf_62 {p : Program} {l : Launch} {e : Env} {s : State} {m : MethodId} {args : Array Value} {below : List Frame} {meth : Method} {c : Code} {D : zk_G} {g : zk_M} {b0 : Nat} (X : zk_X p s m args meth c D g b0 cX1_unsf 5 "LandFolio$Folio" yX1_unsf.name (some Jvm.ClassFile.FieldType.int)) {post : Int32 → Prop} {K4 : Int32 → Int32 → Prop} {a0 : Option Nat} {a2 : Int32} {s0 : Int32} {P : zk_H}  (hK4 : ∀ (u1 : Int32) (u2 : Int32), K4 u1 u2 → zV p l e ({ frames := 6, cells := 0, slots := 0, locals := 135 } : Room) s m args below meth c D b0 5 (0) (0) (MQ below (va_Qi (fun r u => post r ∧ u = P) (zk_B D b0) (zk_A b0)) args s 0 0 (zk_A b0)) P 4 [(0, va_rf (a0)), (1, .int (u1)), (2, .int (u2))] [])  (hh : wj_X1_unsf_62 post K4 a0 a2 s0 P) : zV p l e ({ frames := 6, cells := 0, slots := 0, locals := 135 } : Room) s m args below meth c D b0 5 (0) (0) (MQ below (va_Qi (fun r u => post r ∧ u = P) (zk_B D b0) (zk_A b0)) args s 0 0 (zk_A b0)) P 62 [(0, va_rf (a0)), (2, .int (a2))] [.int (s0)] := by
  have h := hh
  unfold wj_X1_unsf_62 at h
  refine zv_iconst X (v := 0) dX1_unsf_62 rfl ?_
  exact kj_X1_unsf_63 X hK4 h
theorem kb_X1_unsf_4 {p : Program} {l : Launch} {e : Env} {s : State} {m : MethodId} {args : Array Value} {below : List Frame} {meth : Method} {c : Code} {D : zk_G} {g : zk_M} {b0 : Nat} (X : zk_X p s m args meth c D g b0 cX1_unsf 5 "LandFolio$Folio" yX1_unsf.name (some Jvm.ClassFile.FieldType.int)) {post : Int32 → Prop}  {K4 : Int32 → Int32 → Prop} {a0 : Option Nat} {a1 : Int32} {a2 : Int32} {P : zk_H}   (hK4 : ∀ (u1 : Int32) (u2 : Int32), K4 u1 u2 → zV p l e ({ frames := 6, cells := 0, slots := 0, locals := 135 } : Room) s m args below meth c D b0 5 (0) (0) (MQ below (va_Qi (fun r u => post r ∧ u = P) (zk_B D b0) (zk_A b0)) args s 0 0 (zk_A b0)) P 4 [(0, va_rf (a0)), (1, .int (u1)), (2, .int (u2))] [])  (hh : wb_X1_unsf_4 post a0 P K4 a1 a2) : zV p l e ({ frames := 6, cells := 0, slots := 0, locals := 135 } : Room) s m args below meth c D b0 5 (0) (0) (MQ below (va_Qi (fun r u => post r ∧ u = P) (zk_B D b0) (zk_A b0)) args s 0 0 (zk_A b0)) P 4 [(0, va_rf (a0)), (1, .int (a1)), (2, .int (a2))] [] := by
  have h := hh
  unfold wb_X1_unsf_4 at h
  refine zv_iload_n X 2 dX1_unsf_4 rfl ?_
  refine zv_aload_n X 0 dX1_unsf_5 rfl ?_
  refine zv_getf_r X fo_q199 dX1_unsf_6 h (fun v6 h => ?_)
  refine zv_ciR ((zr_Vl X (As := []) (rest := [.int (a2)]) h (fun a h => wk_J2_size l h) (zk_l1 ⟨_, rfl, cwV 0 X.hts (lw_V q361 q362 q363 q106 q364) rfl rfl rfl ⟨rfl, md_J2_size⟩ ⟨Nat.le_of_ble_eq_true rfl, Nat.le_of_ble_eq_true rfl⟩⟩) rfl rfl (zk_rs (Nat.le_of_ble_eq_true rfl)) dX1_unsf_9 ⟨by first | exact Nat.le_of_ble_eq_true rfl | omega | (dsimp only; omega), by first | exact Nat.le_of_ble_eq_true rfl | omega | (dsimp only; omega)⟩)) (fun v9 h => ?_)
  refine zv_icmp_ge X (tgt := 71) dX1_unsf_12 (by decide) h (fun h => ?_) (fun h => ?_)
  · refine zv_iload_n X 1 dX1_unsf_71 rfl ?_
    exact zv_iret X rfl (by first | exact Nat.le_of_ble_eq_true rfl | omega | (dsimp only; omega)) (by first | exact Nat.le_of_ble_eq_true rfl | omega | (dsimp only; omega)) dX1_unsf_72 ⟨h, rfl⟩
  · refine zv_iload_n X 1 dX1_unsf_15 rfl ?_
    refine zv_aload_n X 0 dX1_unsf_16 rfl ?_
    refine zv_iload_n X 2 dX1_unsf_17 rfl ?_
    refine zv_cqR ((zr_Vl X (As := [.int (a2)]) (rest := [.int (a1)]) h (fun a h => wk_X1_burden l h) (zk_l1 ⟨_, rfl, cwV 1 X.hts (lw_V q525 q526 q527 q103 q528) rfl rfl rfl ⟨rfl, md_X1_burden⟩ ⟨Nat.le_of_ble_eq_true rfl, Nat.le_of_ble_eq_true rfl⟩⟩) rfl rfl (zk_rs (Nat.le_of_ble_eq_true rfl)) dX1_unsf_18 ⟨by first | exact Nat.le_of_ble_eq_true rfl | omega | (dsimp only; omega), by first | exact Nat.le_of_ble_eq_true rfl | omega | (dsimp only; omega)⟩)) (fun v18 h => ?_)
    refine zv_astore X (L' := [(4, va_rf (v18)), (0, va_rf (a0)), (1, .int (a1)), (2, .int (a2))]) dX1_unsf_21 (by decide) rfl ?_
    refine zv_aload X 0 dX1_unsf_23 rfl ?_
    refine zv_inst X zk_cs7 (zk_l1 ⟨_, rfl, X.nc (i := 1) rfl⟩) q1553 dX1_unsf_25 h (fun v25 h => ?_)
    refine zv_if_eq X (tgt := 62) dX1_unsf_28 (by decide) h (fun h => ?_) (fun h => ?_)
    · refine zv_sub (L' := [(0, va_rf (a0)), (2, .int (a2))]) [1, 3] rfl ?_
      exact kj_X1_unsf_62 X hK4 h
    · refine zv_aload X 0 dX1_unsf_31 rfl ?_
      refine zv_cast X zk_cs7 q1553 dX1_unsf_33 h (fun h => ?_)
      refine zv_astore_n X (i := 3) (L' := [(3, va_rf (v18)), (4, va_rf (v18)), (0, va_rf (a0)), (1, .int (a1)), (2, .int (a2))]) dX1_unsf_36 rfl (by decide) rfl ?_
      refine zv_aload_n X 0 dX1_unsf_37 rfl ?_
      refine zv_ciR ((zr_Ul X (As := []) (rest := [.int (a1)]) h (fun a h => wk_X7_isEnded l h) (zk_l1 ⟨_, rfl, _, va_cwU 0 X.hts (zk_wsU q1604 q1498 q1500 q1501 q127 q1502) rfl rfl rfl rfl md_X7_isEnded ⟨Nat.le_of_ble_eq_true rfl, Nat.le_of_ble_eq_true rfl⟩⟩) rfl rfl (zk_rs (Nat.le_of_ble_eq_true rfl)) dX1_unsf_38 ⟨by first | exact Nat.le_of_ble_eq_true rfl | omega | (dsimp only; omega), by first | exact Nat.le_of_ble_eq_true rfl | omega | (dsimp only; omega)⟩)) (fun v38 h => ?_)
      refine zv_if_ne X (tgt := 62) dX1_unsf_41 (by decide) h (fun h => ?_) (fun h => ?_)
      · refine zv_sub (L' := [(0, va_rf (a0)), (2, .int (a2))]) [2, 4] rfl ?_
        exact kj_X1_unsf_62 X hK4 h
      · refine zv_aload_n X 2 dX1_unsf_44 rfl ?_
        refine zv_aload_n X 0 dX1_unsf_45 rfl ?_
        refine zv_bipush X (v := -2) dX1_unsf_46 rfl ?_
        refine zv_ciR ((zr_Vl X (As := [va_rf (v18), .int (-2)]) (rest := [.int (a1)]) h (fun a h => wk_X1_cover l h) (zk_l1 ⟨_, rfl, cwV 2 X.hts (lw_V q1605 q1527 q1528 q103 q1529) rfl rfl rfl ⟨rfl, md_X1_cover⟩ ⟨Nat.le_of_ble_eq_true rfl, Nat.le_of_ble_eq_true rfl⟩⟩) rfl rfl (zk_rs (Nat.le_of_ble_eq_true rfl)) dX1_unsf_48 ⟨by first | exact Nat.le_of_ble_eq_true rfl | omega | (dsimp only; omega), by first | exact Nat.le_of_ble_eq_true rfl | omega | (dsimp only; omega)⟩)) (fun v48 h => ?_)
        refine zv_aload_n X 0 dX1_unsf_51 rfl ?_
        refine zv_getf_i X fo_q590 dX1_unsf_52 h (fun v52 h => ?_)
        refine zv_icmp_ge X (tgt := 62) dX1_unsf_55 (by decide) h (fun h => ?_) (fun h => ?_)
        · refine zv_sub (L' := [(0, va_rf (a0)), (2, .int (a2))]) [2, 4] rfl ?_
          exact kj_X1_unsf_62 X hK4 h
        · refine zv_iconst X (v := 1) dX1_unsf_58 rfl ?_
          refine zv_goto X (tgt := 63) dX1_unsf_59 (by decide) ?_
          refine zv_sub (L' := [(0, va_rf (a0)), (2, .int (a2))]) [2, 4] rfl ?_
          exact kj_X1_unsf_63 X hK4 h
theorem kl_X1_unsf_4 {p : Program} {l : Launch} {e : Env} {s : State} {m : MethodId} {args : Array Value} {below : List Frame} {meth : Method} {c : Code} {D : zk_G} {g : zk_M} {b0 : Nat} (X : zk_X p s m args meth c D g b0 cX1_unsf 5 "LandFolio$Folio" yX1_unsf.name (some Jvm.ClassFile.FieldType.int)) {post : Int32 → Prop}  {a0 : Option Nat} {P : zk_H}   : ∀ (n : Nat) (a1 : Int32) (a2 : Int32), wl_X1_unsf_4 post a0 P n a1 a2 → zV p l e ({ frames := 6, cells := 0, slots := 0, locals := 135 } : Room) s m args below meth c D b0 5 (0) (0) (MQ below (va_Qi (fun r u => post r ∧ u = P) (zk_B D b0) (zk_A b0)) args s 0 0 (zk_A b0)) P 4 [(0, va_rf (a0)), (1, .int (a1)), (2, .int (a2))] [] := by
  intro n
  induction n with
  | zero => intro _ _ h; exact h.elim
  | succ n ih =>
    intro a1 a2 h
    exact kb_X1_unsf_4 X  (fun u0 u1 h => ih _ _ h)  h
theorem md_X1_unsf : yX1_unsf.cls ≠ "java/lang/invoke/MethodHandle" ∧ yX1_unsf.cls ≠ "java/lang/invoke/VarHandle" ∧ (parseMethodDescriptor yX1_unsf.desc).map (fun d => d.parameters.length) = some 0 := by decide +kernel
theorem wk_X1_unsf (l : Launch) {D : zk_G} {g : zk_M} {b0 : Nat} {post : Int32 → Prop} {this : Nat} {P : zk_H} (hh : wp_X1_unsf post this P) : Met l yX1_unsf (ws_ yX1_unsf cX1_unsf 5 (some Jvm.ClassFile.FieldType.int)) ({ frames := 6, cells := 0, slots := 0, locals := 135 } : Room) (va_Pc [.ref this] (zk_pre D g b0 P)) (va_Qi (fun r u => post r ∧ u = P) (zk_B D b0) (zk_A b0)) 0 0 (zk_A b0) := by
  refine zk_enter "LandFolio$Folio" yX1_unsf.name (by decide +kernel) (by decide +kernel) (plainFor_of_name (by decide +kernel)) [.ref this] (Nat.le_of_ble_eq_true rfl) ?_
  intro p e s m args below meth c X
  refine zk_at0 (L' := [(0, va_rf (some this))]) (rfl) ?_
  have h := hh
  unfold wp_X1_unsf at h
  refine zv_iconst X (v := 0) dX1_unsf_0 rfl ?_
  refine zv_istore_n X (i := 1) (L' := [(1, .int (0)), (0, va_rf (some this))]) dX1_unsf_1 rfl (by decide) rfl ?_
  refine zv_iconst X (v := 0) dX1_unsf_2 rfl ?_
  refine zv_istore_n X (i := 2) (L' := [(2, .int (0)), (1, .int (0)), (0, va_rf (some this))]) dX1_unsf_3 rfl (by decide) rfl ?_
  refine zv_sub (L' := [(0, va_rf (some this)), (1, .int (0)), (2, .int (0))]) [2, 1, 0] rfl ?_
  obtain ⟨n3, h⟩ := h
  exact kl_X1_unsf_4 X  n3 _ _ h
theorem kj_X0_allAmounts_51 {p : Program} {l : Launch} {e : Env} {s : State} {m : MethodId} {args : Array Value} {below : List Frame} {meth : Method} {c : Code} {D : zk_G} {g : zk_M} {b0 : Nat} (X : zk_X p s m args meth c D g b0 cX0_allAmounts 5 "LandFolio" "allAmounts" (some Jvm.ClassFile.FieldType.int)) {post : Int32 → Prop} {K4 : Int32 → Int32 → Prop} {a0 : Option Nat} {a2 : Int32} {s0 : Int32} {s1 : Int32} {P : zk_H}  (hK4 : ∀ (u1 : Int32) (u2 : Int32), K4 u1 u2 → zV p l e ({ frames := 4, cells := 0, slots := 0, locals := 85 } : Room) s m args below meth c D b0 5 (0) (0) (MQ below (va_Qi (fun r u => post r ∧ u = P) (zk_B D b0) (zk_A b0)) args s 0 0 (zk_A b0)) P 4 [(0, va_rf (a0)), (1, .int (u1)), (2, .int (u2))] [])  (hh : wj_X0_allAmounts_51 post K4 a0 a2 s0 s1 P) : zV p l e ({ frames := 4, cells := 0, slots := 0, locals := 85 } : Room) s m args below meth c D b0 5 (0) (0) (MQ below (va_Qi (fun r u => post r ∧ u = P) (zk_B D b0) (zk_A b0)) args s 0 0 (zk_A b0)) P 51 [(0, va_rf (a0)), (2, .int (a2))] [.int (s0), .int (s1)] := by
  have h := hh
  unfold wj_X0_allAmounts_51 at h
  refine zv_iadd X dX0_allAmounts_51 ?_
  refine zv_top_i h (fun v52 h => ?_)
  refine zv_istore_n X (i := 1) (L' := [(1, .int (v52)), (0, va_rf (a0)), (2, .int (a2))]) dX0_allAmounts_52 rfl (by decide) (by simp [zk_s1, zk_s2, zk_rc, zk_ic, zk_jc]) ?_
  obtain ⟨v53, e53, h⟩ := zt_e h
  refine zv_iinc X (v := v53) (L' := [(2, .int (v53)), (1, .int (v52)), (0, va_rf (a0))]) 2 dX0_allAmounts_53 rfl e53 (by decide) rfl ?_
  refine zv_goto X (tgt := 4) dX0_allAmounts_56 (by decide) ?_
  refine zv_sub (L' := [(0, va_rf (a0)), (1, .int (v52)), (2, .int (v53))]) [2, 1, 0] rfl ?_
  exact hK4 _ _ h
theorem kb_X0_allAmounts_4 {p : Program} {l : Launch} {e : Env} {s : State} {m : MethodId} {args : Array Value} {below : List Frame} {meth : Method} {c : Code} {D : zk_G} {g : zk_M} {b0 : Nat} (X : zk_X p s m args meth c D g b0 cX0_allAmounts 5 "LandFolio" "allAmounts" (some Jvm.ClassFile.FieldType.int)) {post : Int32 → Prop}  {K4 : Int32 → Int32 → Prop} {a0 : Option Nat} {a1 : Int32} {a2 : Int32} {P : zk_H}   (hK4 : ∀ (u1 : Int32) (u2 : Int32), K4 u1 u2 → zV p l e ({ frames := 4, cells := 0, slots := 0, locals := 85 } : Room) s m args below meth c D b0 5 (0) (0) (MQ below (va_Qi (fun r u => post r ∧ u = P) (zk_B D b0) (zk_A b0)) args s 0 0 (zk_A b0)) P 4 [(0, va_rf (a0)), (1, .int (u1)), (2, .int (u2))] [])  (hh : wb_X0_allAmounts_4 post a0 P K4 a1 a2) : zV p l e ({ frames := 4, cells := 0, slots := 0, locals := 85 } : Room) s m args below meth c D b0 5 (0) (0) (MQ below (va_Qi (fun r u => post r ∧ u = P) (zk_B D b0) (zk_A b0)) args s 0 0 (zk_A b0)) P 4 [(0, va_rf (a0)), (1, .int (a1)), (2, .int (a2))] [] := by
  have h := hh
  unfold wb_X0_allAmounts_4 at h
  refine zv_iload_n X 2 dX0_allAmounts_4 rfl ?_
  refine zv_aload_n X 0 dX0_allAmounts_5 rfl ?_
  refine zv_getf_r X fo_q402 dX0_allAmounts_6 h (fun v6 h => ?_)
  refine zv_getf_r X fo_q201 dX0_allAmounts_9 h (fun v9 h => ?_)
  refine zv_ciR ((zr_Vl X (As := []) (rest := [.int (a2)]) h (fun a h => wk_J2_size l h) (zk_l1 ⟨_, rfl, cwV 0 X.hts (lw_V q672 q362 q363 q106 q364) rfl rfl rfl ⟨rfl, md_J2_size⟩ ⟨Nat.le_of_ble_eq_true rfl, Nat.le_of_ble_eq_true rfl⟩⟩) rfl rfl (zk_rs (Nat.le_of_ble_eq_true rfl)) dX0_allAmounts_12 ⟨by first | exact Nat.le_of_ble_eq_true rfl | omega | (dsimp only; omega), by first | exact Nat.le_of_ble_eq_true rfl | omega | (dsimp only; omega)⟩)) (fun v12 h => ?_)
  refine zv_icmp_ge X (tgt := 59) dX0_allAmounts_15 (by decide) h (fun h => ?_) (fun h => ?_)
  · refine zv_iload_n X 1 dX0_allAmounts_59 rfl ?_
    exact zv_iret X rfl (by first | exact Nat.le_of_ble_eq_true rfl | omega | (dsimp only; omega)) (by first | exact Nat.le_of_ble_eq_true rfl | omega | (dsimp only; omega)) dX0_allAmounts_60 ⟨h, rfl⟩
  · refine zv_iload_n X 1 dX0_allAmounts_18 rfl ?_
    refine zv_aload_n X 0 dX0_allAmounts_19 rfl ?_
    refine zv_getf_r X fo_q402 dX0_allAmounts_20 h (fun v20 h => ?_)
    refine zv_iload_n X 2 dX0_allAmounts_23 rfl ?_
    refine zv_cqR ((zr_Vl X (As := [.int (a2)]) (rest := [.int (a1)]) h (fun a h => wk_X1_burden l h) (zk_l1 ⟨_, rfl, cwV 1 X.hts (lw_V q1496 q526 q527 q103 q528) rfl rfl rfl ⟨rfl, md_X1_burden⟩ ⟨Nat.le_of_ble_eq_true rfl, Nat.le_of_ble_eq_true rfl⟩⟩) rfl rfl (zk_rs (Nat.le_of_ble_eq_true rfl)) dX0_allAmounts_24 ⟨by first | exact Nat.le_of_ble_eq_true rfl | omega | (dsimp only; omega), by first | exact Nat.le_of_ble_eq_true rfl | omega | (dsimp only; omega)⟩)) (fun v24 h => ?_)
    refine zv_astore X (L' := [(4, va_rf (v24)), (0, va_rf (a0)), (1, .int (a1)), (2, .int (a2))]) dX0_allAmounts_27 (by decide) rfl ?_
    refine zv_aload X 0 dX0_allAmounts_29 rfl ?_
    refine zv_inst X zk_cs7 (zk_l1 ⟨_, rfl, X.nc (i := 1) rfl⟩) q1470 dX0_allAmounts_31 h (fun v31 h => ?_)
    refine zv_if_eq X (tgt := 50) dX0_allAmounts_34 (by decide) h (fun h => ?_) (fun h => ?_)
    · refine zv_iconst X (v := 0) dX0_allAmounts_50 rfl ?_
      refine zv_sub (L' := [(0, va_rf (a0)), (2, .int (a2))]) [1, 3] rfl ?_
      exact kj_X0_allAmounts_51 X hK4 h
    · refine zv_aload X 0 dX0_allAmounts_37 rfl ?_
      refine zv_cast X zk_cs7 q1470 dX0_allAmounts_39 h (fun h => ?_)
      refine zv_astore_n X (i := 3) (L' := [(3, va_rf (v24)), (4, va_rf (v24)), (0, va_rf (a0)), (1, .int (a1)), (2, .int (a2))]) dX0_allAmounts_42 rfl (by decide) rfl ?_
      refine zv_aload_n X 0 dX0_allAmounts_43 rfl ?_
      refine zv_getf_i X fo_q591 dX0_allAmounts_44 h (fun v44 h => ?_)
      refine zv_goto X (tgt := 51) dX0_allAmounts_47 (by decide) ?_
      refine zv_sub (L' := [(0, va_rf (a0)), (2, .int (a2))]) [2, 4] rfl ?_
      exact kj_X0_allAmounts_51 X hK4 h
theorem kl_X0_allAmounts_4 {p : Program} {l : Launch} {e : Env} {s : State} {m : MethodId} {args : Array Value} {below : List Frame} {meth : Method} {c : Code} {D : zk_G} {g : zk_M} {b0 : Nat} (X : zk_X p s m args meth c D g b0 cX0_allAmounts 5 "LandFolio" "allAmounts" (some Jvm.ClassFile.FieldType.int)) {post : Int32 → Prop}  {a0 : Option Nat} {P : zk_H}   : ∀ (n : Nat) (a1 : Int32) (a2 : Int32), wl_X0_allAmounts_4 post a0 P n a1 a2 → zV p l e ({ frames := 4, cells := 0, slots := 0, locals := 85 } : Room) s m args below meth c D b0 5 (0) (0) (MQ below (va_Qi (fun r u => post r ∧ u = P) (zk_B D b0) (zk_A b0)) args s 0 0 (zk_A b0)) P 4 [(0, va_rf (a0)), (1, .int (a1)), (2, .int (a2))] [] := by
  intro n
  induction n with
  | zero => intro _ _ h; exact h.elim
  | succ n ih =>
    intro a1 a2 h
    exact kb_X0_allAmounts_4 X  (fun u0 u1 h => ih _ _ h)  h
theorem md_X0_allAmounts : yX0_allAmounts.cls ≠ "java/lang/invoke/MethodHandle" ∧ yX0_allAmounts.cls ≠ "java/lang/invoke/VarHandle" ∧ (parseMethodDescriptor yX0_allAmounts.desc).map (fun d => d.parameters.length) = some 0 := by decide +kernel
theorem wk_X0_allAmounts (l : Launch) {D : zk_G} {g : zk_M} {b0 : Nat} {post : Int32 → Prop} {this : Nat} {P : zk_H} (hh : wp_X0_allAmounts post this P) : Met l yX0_allAmounts (ws_ yX0_allAmounts cX0_allAmounts 5 (some Jvm.ClassFile.FieldType.int)) ({ frames := 4, cells := 0, slots := 0, locals := 85 } : Room) (va_Pc [.ref this] (zk_pre D g b0 P)) (va_Qi (fun r u => post r ∧ u = P) (zk_B D b0) (zk_A b0)) 0 0 (zk_A b0) := by
  refine zk_enter "LandFolio" "allAmounts" rfl rfl (plainFor_of_name (by decide)) [.ref this] (Nat.le_of_ble_eq_true rfl) ?_
  intro p e s m args below meth c X
  refine zk_at0 (L' := [(0, va_rf (some this))]) (rfl) ?_
  have h := hh
  unfold wp_X0_allAmounts at h
  refine zv_iconst X (v := 0) dX0_allAmounts_0 rfl ?_
  refine zv_istore_n X (i := 1) (L' := [(1, .int (0)), (0, va_rf (some this))]) dX0_allAmounts_1 rfl (by decide) rfl ?_
  refine zv_iconst X (v := 0) dX0_allAmounts_2 rfl ?_
  refine zv_istore_n X (i := 2) (L' := [(2, .int (0)), (1, .int (0)), (0, va_rf (some this))]) dX0_allAmounts_3 rfl (by decide) rfl ?_
  refine zv_sub (L' := [(0, va_rf (some this)), (1, .int (0)), (2, .int (0))]) [2, 1, 0] rfl ?_
  obtain ⟨n3, h⟩ := h
  exact kl_X0_allAmounts_4 X  n3 _ _ h
theorem kj_X0_open_38 {p : Program} {l : Launch} {e : Env} {s : State} {m : MethodId} {args : Array Value} {below : List Frame} {meth : Method} {c : Code} {D : zk_G} {g : zk_M} {b0 : Nat} (X : zk_X p s m args meth c D g b0 cX0_open 3 "LandFolio" "open" (some Jvm.ClassFile.FieldType.int)) {post : Int32 → Prop} {K4 : Int32 → Int32 → Prop} {a0 : Option Nat} {a2 : Int32} {s0 : Int32} {s1 : Int32} {P : zk_H}  (hK4 : ∀ (u1 : Int32) (u2 : Int32), K4 u1 u2 → zV p l e ({ frames := 4, cells := 0, slots := 0, locals := 85 } : Room) s m args below meth c D b0 3 (0) (0) (MQ below (va_Qi (fun r u => post r ∧ u = P) (zk_B D b0) (zk_A b0)) args s 0 0 (zk_A b0)) P 4 [(0, va_rf (a0)), (1, .int (u1)), (2, .int (u2))] [])  (hh : wj_X0_open_38 post K4 a0 a2 s0 s1 P) : zV p l e ({ frames := 4, cells := 0, slots := 0, locals := 85 } : Room) s m args below meth c D b0 3 (0) (0) (MQ below (va_Qi (fun r u => post r ∧ u = P) (zk_B D b0) (zk_A b0)) args s 0 0 (zk_A b0)) P 38 [(0, va_rf (a0)), (2, .int (a2))] [.int (s0), .int (s1)] := by
  have h := hh
  unfold wj_X0_open_38 at h
  refine zv_iadd X dX0_open_38 ?_
  refine zv_top_i h (fun v39 h => ?_)
  refine zv_istore_n X (i := 1) (L' := [(1, .int (v39)), (0, va_rf (a0)), (2, .int (a2))]) dX0_open_39 rfl (by decide) (by simp [zk_s1, zk_s2, zk_rc, zk_ic, zk_jc]) ?_
  obtain ⟨v40, e40, h⟩ := zt_e h
  refine zv_iinc X (v := v40) (L' := [(2, .int (v40)), (1, .int (v39)), (0, va_rf (a0))]) 2 dX0_open_40 rfl e40 (by decide) rfl ?_
  refine zv_goto X (tgt := 4) dX0_open_43 (by decide) ?_
  refine zv_sub (L' := [(0, va_rf (a0)), (1, .int (v39)), (2, .int (v40))]) [2, 1, 0] rfl ?_
  exact hK4 _ _ h
theorem kb_X0_open_4 {p : Program} {l : Launch} {e : Env} {s : State} {m : MethodId} {args : Array Value} {below : List Frame} {meth : Method} {c : Code} {D : zk_G} {g : zk_M} {b0 : Nat} (X : zk_X p s m args meth c D g b0 cX0_open 3 "LandFolio" "open" (some Jvm.ClassFile.FieldType.int)) {post : Int32 → Prop}  {K4 : Int32 → Int32 → Prop} {a0 : Option Nat} {a1 : Int32} {a2 : Int32} {P : zk_H}   (hK4 : ∀ (u1 : Int32) (u2 : Int32), K4 u1 u2 → zV p l e ({ frames := 4, cells := 0, slots := 0, locals := 85 } : Room) s m args below meth c D b0 3 (0) (0) (MQ below (va_Qi (fun r u => post r ∧ u = P) (zk_B D b0) (zk_A b0)) args s 0 0 (zk_A b0)) P 4 [(0, va_rf (a0)), (1, .int (u1)), (2, .int (u2))] [])  (hh : wb_X0_open_4 post a0 P K4 a1 a2) : zV p l e ({ frames := 4, cells := 0, slots := 0, locals := 85 } : Room) s m args below meth c D b0 3 (0) (0) (MQ below (va_Qi (fun r u => post r ∧ u = P) (zk_B D b0) (zk_A b0)) args s 0 0 (zk_A b0)) P 4 [(0, va_rf (a0)), (1, .int (a1)), (2, .int (a2))] [] := by
  have h := hh
  unfold wb_X0_open_4 at h
  refine zv_iload_n X 2 dX0_open_4 rfl ?_
  refine zv_aload_n X 0 dX0_open_5 rfl ?_
  refine zv_getf_r X fo_q402 dX0_open_6 h (fun v6 h => ?_)
  refine zv_getf_r X fo_q201 dX0_open_9 h (fun v9 h => ?_)
  refine zv_ciR ((zr_Vl X (As := []) (rest := [.int (a2)]) h (fun a h => wk_J2_size l h) (zk_l1 ⟨_, rfl, cwV 0 X.hts (lw_V q672 q362 q363 q106 q364) rfl rfl rfl ⟨rfl, md_J2_size⟩ ⟨Nat.le_of_ble_eq_true rfl, Nat.le_of_ble_eq_true rfl⟩⟩) rfl rfl (zk_rs (Nat.le_of_ble_eq_true rfl)) dX0_open_12 ⟨by first | exact Nat.le_of_ble_eq_true rfl | omega | (dsimp only; omega), by first | exact Nat.le_of_ble_eq_true rfl | omega | (dsimp only; omega)⟩)) (fun v12 h => ?_)
  refine zv_icmp_ge X (tgt := 46) dX0_open_15 (by decide) h (fun h => ?_) (fun h => ?_)
  · refine zv_iload_n X 1 dX0_open_46 rfl ?_
    exact zv_iret X rfl (by first | exact Nat.le_of_ble_eq_true rfl | omega | (dsimp only; omega)) (by first | exact Nat.le_of_ble_eq_true rfl | omega | (dsimp only; omega)) dX0_open_47 ⟨h, rfl⟩
  · refine zv_iload_n X 1 dX0_open_18 rfl ?_
    refine zv_aload_n X 0 dX0_open_19 rfl ?_
    refine zv_getf_r X fo_q402 dX0_open_20 h (fun v20 h => ?_)
    refine zv_iload_n X 2 dX0_open_23 rfl ?_
    refine zv_cqR ((zr_Vl X (As := [.int (a2)]) (rest := [.int (a1)]) h (fun a h => wk_X1_burden l h) (zk_l1 ⟨_, rfl, cwV 1 X.hts (lw_V q1496 q526 q527 q103 q528) rfl rfl rfl ⟨rfl, md_X1_burden⟩ ⟨Nat.le_of_ble_eq_true rfl, Nat.le_of_ble_eq_true rfl⟩⟩) rfl rfl (zk_rs (Nat.le_of_ble_eq_true rfl)) dX0_open_24 ⟨by first | exact Nat.le_of_ble_eq_true rfl | omega | (dsimp only; omega), by first | exact Nat.le_of_ble_eq_true rfl | omega | (dsimp only; omega)⟩)) (fun v24 h => ?_)
    refine zv_ciR ((zr_Ul X (As := []) (rest := [.int (a1)]) h (fun a h => wk_X7_isEnded l h) (zk_l2 ⟨_, rfl, _, va_cwU 0 X.hts (zk_wsU q1595 q2600 q2601 q1501 q127 q1502) rfl rfl rfl rfl md_X7_isEnded ⟨Nat.le_of_ble_eq_true rfl, Nat.le_of_ble_eq_true rfl⟩⟩ ⟨_, rfl, _, va_cwU 0 X.hts (zk_wsU q1595 q2600 q2602 q1501 q127 q1502) rfl rfl rfl rfl md_X7_isEnded ⟨Nat.le_of_ble_eq_true rfl, Nat.le_of_ble_eq_true rfl⟩⟩) rfl rfl (zk_rs (Nat.le_of_ble_eq_true rfl)) dX0_open_27 ⟨by first | exact Nat.le_of_ble_eq_true rfl | omega | (dsimp only; omega), by first | exact Nat.le_of_ble_eq_true rfl | omega | (dsimp only; omega)⟩)) (fun v27 h => ?_)
    refine zv_if_eq X (tgt := 37) dX0_open_30 (by decide) h (fun h => ?_) (fun h => ?_)
    · refine zv_iconst X (v := 1) dX0_open_37 rfl ?_
      refine zv_sub (L' := [(0, va_rf (a0)), (2, .int (a2))]) [0, 2] rfl ?_
      exact kj_X0_open_38 X hK4 h
    · refine zv_iconst X (v := 0) dX0_open_33 rfl ?_
      refine zv_goto X (tgt := 38) dX0_open_34 (by decide) ?_
      refine zv_sub (L' := [(0, va_rf (a0)), (2, .int (a2))]) [0, 2] rfl ?_
      exact kj_X0_open_38 X hK4 h
theorem kl_X0_open_4 {p : Program} {l : Launch} {e : Env} {s : State} {m : MethodId} {args : Array Value} {below : List Frame} {meth : Method} {c : Code} {D : zk_G} {g : zk_M} {b0 : Nat} (X : zk_X p s m args meth c D g b0 cX0_open 3 "LandFolio" "open" (some Jvm.ClassFile.FieldType.int)) {post : Int32 → Prop}  {a0 : Option Nat} {P : zk_H}   : ∀ (n : Nat) (a1 : Int32) (a2 : Int32), wl_X0_open_4 post a0 P n a1 a2 → zV p l e ({ frames := 4, cells := 0, slots := 0, locals := 85 } : Room) s m args below meth c D b0 3 (0) (0) (MQ below (va_Qi (fun r u => post r ∧ u = P) (zk_B D b0) (zk_A b0)) args s 0 0 (zk_A b0)) P 4 [(0, va_rf (a0)), (1, .int (a1)), (2, .int (a2))] [] := by
  intro n
  induction n with
  | zero => intro _ _ h; exact h.elim
  | succ n ih =>
    intro a1 a2 h
    exact kb_X0_open_4 X  (fun u0 u1 h => ih _ _ h)  h
theorem md_X0_open : yX0_open.cls ≠ "java/lang/invoke/MethodHandle" ∧ yX0_open.cls ≠ "java/lang/invoke/VarHandle" ∧ (parseMethodDescriptor yX0_open.desc).map (fun d => d.parameters.length) = some 0 := by decide +kernel
theorem wk_X0_open (l : Launch) {D : zk_G} {g : zk_M} {b0 : Nat} {post : Int32 → Prop} {this : Nat} {P : zk_H} (hh : wp_X0_open post this P) : Met l yX0_open (ws_ yX0_open cX0_open 3 (some Jvm.ClassFile.FieldType.int)) ({ frames := 4, cells := 0, slots := 0, locals := 85 } : Room) (va_Pc [.ref this] (zk_pre D g b0 P)) (va_Qi (fun r u => post r ∧ u = P) (zk_B D b0) (zk_A b0)) 0 0 (zk_A b0) := by
  refine zk_enter "LandFolio" "open" rfl rfl (plainFor_of_name (by decide)) [.ref this] (Nat.le_of_ble_eq_true rfl) ?_
  intro p e s m args below meth c X
  refine zk_at0 (L' := [(0, va_rf (some this))]) (rfl) ?_
  have h := hh
  unfold wp_X0_open at h
  refine zv_iconst X (v := 0) dX0_open_0 rfl ?_
  refine zv_istore_n X (i := 1) (L' := [(1, .int (0)), (0, va_rf (some this))]) dX0_open_1 rfl (by decide) rfl ?_
  refine zv_iconst X (v := 0) dX0_open_2 rfl ?_
  refine zv_istore_n X (i := 2) (L' := [(2, .int (0)), (1, .int (0)), (0, va_rf (some this))]) dX0_open_3 rfl (by decide) rfl ?_
  refine zv_sub (L' := [(0, va_rf (some this)), (1, .int (0)), (2, .int (0))]) [2, 1, 0] rfl ?_
  obtain ⟨n3, h⟩ := h
  exact kl_X0_open_4 X  n3 _ _ h
theorem kj_X0_live_38 {p : Program} {l : Launch} {e : Env} {s : State} {m : MethodId} {args : Array Value} {below : List Frame} {meth : Method} {c : Code} {D : zk_G} {g : zk_M} {b0 : Nat} (X : zk_X p s m args meth c D g b0 cX0_live 3 "LandFolio" "live" (some Jvm.ClassFile.FieldType.int)) {post : Int32 → Prop} {K4 : Int32 → Int32 → Prop} {a0 : Option Nat} {a2 : Int32} {s0 : Int32} {s1 : Int32} {P : zk_H}  (hK4 : ∀ (u1 : Int32) (u2 : Int32), K4 u1 u2 → zV p l e ({ frames := 4, cells := 0, slots := 0, locals := 85 } : Room) s m args below meth c D b0 3 (0) (0) (MQ below (va_Qi (fun r u => post r ∧ u = P) (zk_B D b0) (zk_A b0)) args s 0 0 (zk_A b0)) P 4 [(0, va_rf (a0)), (1, .int (u1)), (2, .int (u2))] [])  (hh : wj_X0_live_38 post K4 a0 a2 s0 s1 P) : zV p l e ({ frames := 4, cells := 0, slots := 0, locals := 85 } : Room) s m args below meth c D b0 3 (0) (0) (MQ below (va_Qi (fun r u => post r ∧ u = P) (zk_B D b0) (zk_A b0)) args s 0 0 (zk_A b0)) P 38 [(0, va_rf (a0)), (2, .int (a2))] [.int (s0), .int (s1)] := by
  have h := hh
  unfold wj_X0_live_38 at h
  refine zv_iadd X dX0_live_38 ?_
  refine zv_top_i h (fun v39 h => ?_)
  refine zv_istore_n X (i := 1) (L' := [(1, .int (v39)), (0, va_rf (a0)), (2, .int (a2))]) dX0_live_39 rfl (by decide) (by simp [zk_s1, zk_s2, zk_rc, zk_ic, zk_jc]) ?_
  obtain ⟨v40, e40, h⟩ := zt_e h
  refine zv_iinc X (v := v40) (L' := [(2, .int (v40)), (1, .int (v39)), (0, va_rf (a0))]) 2 dX0_live_40 rfl e40 (by decide) rfl ?_
  refine zv_goto X (tgt := 4) dX0_live_43 (by decide) ?_
  refine zv_sub (L' := [(0, va_rf (a0)), (1, .int (v39)), (2, .int (v40))]) [2, 1, 0] rfl ?_
  exact hK4 _ _ h
theorem kb_X0_live_4 {p : Program} {l : Launch} {e : Env} {s : State} {m : MethodId} {args : Array Value} {below : List Frame} {meth : Method} {c : Code} {D : zk_G} {g : zk_M} {b0 : Nat} (X : zk_X p s m args meth c D g b0 cX0_live 3 "LandFolio" "live" (some Jvm.ClassFile.FieldType.int)) {post : Int32 → Prop}  {K4 : Int32 → Int32 → Prop} {a0 : Option Nat} {a1 : Int32} {a2 : Int32} {P : zk_H}   (hK4 : ∀ (u1 : Int32) (u2 : Int32), K4 u1 u2 → zV p l e ({ frames := 4, cells := 0, slots := 0, locals := 85 } : Room) s m args below meth c D b0 3 (0) (0) (MQ below (va_Qi (fun r u => post r ∧ u = P) (zk_B D b0) (zk_A b0)) args s 0 0 (zk_A b0)) P 4 [(0, va_rf (a0)), (1, .int (u1)), (2, .int (u2))] [])  (hh : wb_X0_live_4 post a0 P K4 a1 a2) : zV p l e ({ frames := 4, cells := 0, slots := 0, locals := 85 } : Room) s m args below meth c D b0 3 (0) (0) (MQ below (va_Qi (fun r u => post r ∧ u = P) (zk_B D b0) (zk_A b0)) args s 0 0 (zk_A b0)) P 4 [(0, va_rf (a0)), (1, .int (a1)), (2, .int (a2))] [] := by
  have h := hh
  unfold wb_X0_live_4 at h
  refine zv_iload_n X 2 dX0_live_4 rfl ?_
  refine zv_aload_n X 0 dX0_live_5 rfl ?_
  refine zv_getf_r X fo_q402 dX0_live_6 h (fun v6 h => ?_)
  refine zv_getf_r X fo_q195 dX0_live_9 h (fun v9 h => ?_)
  refine zv_ciR ((zr_Vl X (As := []) (rest := [.int (a2)]) h (fun a h => wk_J2_size l h) (zk_l1 ⟨_, rfl, cwV 0 X.hts (lw_V q672 q362 q363 q106 q364) rfl rfl rfl ⟨rfl, md_J2_size⟩ ⟨Nat.le_of_ble_eq_true rfl, Nat.le_of_ble_eq_true rfl⟩⟩) rfl rfl (zk_rs (Nat.le_of_ble_eq_true rfl)) dX0_live_12 ⟨by first | exact Nat.le_of_ble_eq_true rfl | omega | (dsimp only; omega), by first | exact Nat.le_of_ble_eq_true rfl | omega | (dsimp only; omega)⟩)) (fun v12 h => ?_)
  refine zv_icmp_ge X (tgt := 46) dX0_live_15 (by decide) h (fun h => ?_) (fun h => ?_)
  · refine zv_iload_n X 1 dX0_live_46 rfl ?_
    exact zv_iret X rfl (by first | exact Nat.le_of_ble_eq_true rfl | omega | (dsimp only; omega)) (by first | exact Nat.le_of_ble_eq_true rfl | omega | (dsimp only; omega)) dX0_live_47 ⟨h, rfl⟩
  · refine zv_iload_n X 1 dX0_live_18 rfl ?_
    refine zv_aload_n X 0 dX0_live_19 rfl ?_
    refine zv_getf_r X fo_q402 dX0_live_20 h (fun v20 h => ?_)
    refine zv_iload_n X 2 dX0_live_23 rfl ?_
    refine zv_cqR ((zr_Vl X (As := [.int (a2)]) (rest := [.int (a1)]) h (fun a h => wk_X1_parcel l h) (zk_l1 ⟨_, rfl, cwV 1 X.hts (lw_V q1371 q502 q503 q103 q504) rfl rfl rfl ⟨rfl, md_X1_parcel⟩ ⟨Nat.le_of_ble_eq_true rfl, Nat.le_of_ble_eq_true rfl⟩⟩) rfl rfl (zk_rs (Nat.le_of_ble_eq_true rfl)) dX0_live_24 ⟨by first | exact Nat.le_of_ble_eq_true rfl | omega | (dsimp only; omega), by first | exact Nat.le_of_ble_eq_true rfl | omega | (dsimp only; omega)⟩)) (fun v24 h => ?_)
    refine zv_ciR ((zr_Vl X (As := []) (rest := [.int (a1)]) h (fun a h => wk_X2_isLive l h) (zk_l1 ⟨_, rfl, cwV 0 X.hts (lw_V q1570 q1177 q1178 q111 q1179) rfl rfl rfl ⟨rfl, md_X2_isLive⟩ ⟨Nat.le_of_ble_eq_true rfl, Nat.le_of_ble_eq_true rfl⟩⟩) rfl rfl (zk_rs (Nat.le_of_ble_eq_true rfl)) dX0_live_27 ⟨by first | exact Nat.le_of_ble_eq_true rfl | omega | (dsimp only; omega), by first | exact Nat.le_of_ble_eq_true rfl | omega | (dsimp only; omega)⟩)) (fun v27 h => ?_)
    refine zv_if_eq X (tgt := 37) dX0_live_30 (by decide) h (fun h => ?_) (fun h => ?_)
    · refine zv_iconst X (v := 0) dX0_live_37 rfl ?_
      refine zv_sub (L' := [(0, va_rf (a0)), (2, .int (a2))]) [0, 2] rfl ?_
      exact kj_X0_live_38 X hK4 h
    · refine zv_iconst X (v := 1) dX0_live_33 rfl ?_
      refine zv_goto X (tgt := 38) dX0_live_34 (by decide) ?_
      refine zv_sub (L' := [(0, va_rf (a0)), (2, .int (a2))]) [0, 2] rfl ?_
      exact kj_X0_live_38 X hK4 h
theorem kl_X0_live_4 {p : Program} {l : Launch} {e : Env} {s : State} {m : MethodId} {args : Array Value} {below : List Frame} {meth : Method} {c : Code} {D : zk_G} {g : zk_M} {b0 : Nat} (X : zk_X p s m args meth c D g b0 cX0_live 3 "LandFolio" "live" (some Jvm.ClassFile.FieldType.int)) {post : Int32 → Prop}  {a0 : Option Nat} {P : zk_H}   : ∀ (n : Nat) (a1 : Int32) (a2 : Int32), wl_X0_live_4 post a0 P n a1 a2 → zV p l e ({ frames := 4, cells := 0, slots := 0, locals := 85 } : Room) s m args below meth c D b0 3 (0) (0) (MQ below (va_Qi (fun r u => post r ∧ u = P) (zk_B D b0) (zk_A b0)) args s 0 0 (zk_A b0)) P 4 [(0, va_rf (a0)), (1, .int (a1)), (2, .int (a2))] [] := by
  intro n
  induction n with
  | zero => intro _ _ h; exact h.elim
  | succ n ih =>
    intro a1 a2 h
    exact kb_X0_live_4 X  (fun u0 u1 h => ih _ _ h)  h
theorem md_X0_live : yX0_live.cls ≠ "java/lang/invoke/MethodHandle" ∧ yX0_live.cls ≠ "java/lang/invoke/VarHandle" ∧ (parseMethodDescriptor yX0_live.desc).map (fun d => d.parameters.length) = some 0 := by decide +kernel
theorem wk_X0_live (l : Launch) {D : zk_G} {g : zk_M} {b0 : Nat} {post : Int32 → Prop} {this : Nat} {P : zk_H} (hh : wp_X0_live post this P) : Met l yX0_live (ws_ yX0_live cX0_live 3 (some Jvm.ClassFile.FieldType.int)) ({ frames := 4, cells := 0, slots := 0, locals := 85 } : Room) (va_Pc [.ref this] (zk_pre D g b0 P)) (va_Qi (fun r u => post r ∧ u = P) (zk_B D b0) (zk_A b0)) 0 0 (zk_A b0) := by
  refine zk_enter "LandFolio" "live" rfl rfl (plainFor_of_name (by decide)) [.ref this] (Nat.le_of_ble_eq_true rfl) ?_
  intro p e s m args below meth c X
  refine zk_at0 (L' := [(0, va_rf (some this))]) (rfl) ?_
  have h := hh
  unfold wp_X0_live at h
  refine zv_iconst X (v := 0) dX0_live_0 rfl ?_
  refine zv_istore_n X (i := 1) (L' := [(1, .int (0)), (0, va_rf (some this))]) dX0_live_1 rfl (by decide) rfl ?_
  refine zv_iconst X (v := 0) dX0_live_2 rfl ?_
  refine zv_istore_n X (i := 2) (L' := [(2, .int (0)), (1, .int (0)), (0, va_rf (some this))]) dX0_live_3 rfl (by decide) rfl ?_
  refine zv_sub (L' := [(0, va_rf (some this)), (1, .int (0)), (2, .int (0))]) [2, 1, 0] rfl ?_
  obtain ⟨n3, h⟩ := h
  exact kl_X0_live_4 X  n3 _ _ h
theorem md_X0_value : yX0_value.cls ≠ "java/lang/invoke/MethodHandle" ∧ yX0_value.cls ≠ "java/lang/invoke/VarHandle" ∧ (parseMethodDescriptor yX0_value.desc).map (fun d => d.parameters.length) = some 1 := by decide +kernel
theorem wk_X0_value (l : Launch) {D : zk_G} {g : zk_M} {b0 : Nat} {post : Int32 → Prop} {this : Nat} {x1 : Int32} {P : zk_H} (hh : wp_X0_value post this x1 P) : Met l yX0_value (ws_ yX0_value cX0_value 2 (some Jvm.ClassFile.FieldType.int)) ({ frames := 7, cells := 0, slots := 0, locals := 159 } : Room) (va_Pc [.ref this, .int (x1)] (zk_pre D g b0 P)) (va_Qi (fun r u => post r ∧ u = P) (zk_B D b0) (zk_A b0)) 0 0 (zk_A b0) := by
  refine zk_enter "LandFolio" "value" rfl rfl (plainFor_of_name (by decide)) [.ref this, .int (x1)] (Nat.le_of_ble_eq_true rfl) ?_
  intro p e s m args below meth c X
  refine zk_at0 (L' := [(0, va_rf (some this)), (1, .int (x1))]) (rfl) ?_
  have h := hh
  unfold wp_X0_value at h
  refine zv_iload_n X 1 dX0_value_0 rfl ?_
  by_cases z1_0 : x1 = 0
  · have h := h.1 z1_0
    refine zv_tableIn X (off := 79) (tgt := 80) dX0_value_1 (by rw [z1_0]; decide) (by rw [z1_0]; decide) (by rw [z1_0]; decide) (by decide) ?_
    refine zv_aload_n X 0 dX0_value_80 rfl ?_
    refine zv_getf_r X fo_q402 dX0_value_81 h (fun v81 h => ?_)
    refine zv_getf_i X fo_q184 dX0_value_84 h (fun v84 h => ?_)
    refine zv_goto X (tgt := 241) dX0_value_87 (by decide) ?_
    exact zv_iret X rfl (by first | exact Nat.le_of_ble_eq_true rfl | omega | (dsimp only; omega)) (by first | exact Nat.le_of_ble_eq_true rfl | omega | (dsimp only; omega)) dX0_value_241 ⟨h, rfl⟩
  have h := h.2 z1_0
  by_cases z1_1 : x1 = 1
  · have h := h.1 z1_1
    refine zv_tableIn X (off := 89) (tgt := 90) dX0_value_1 (by rw [z1_1]; decide) (by rw [z1_1]; decide) (by rw [z1_1]; decide) (by decide) ?_
    refine zv_aload_n X 0 dX0_value_90 rfl ?_
    refine zv_getf_r X fo_q402 dX0_value_91 h (fun v91 h => ?_)
    refine zv_getf_i X fo_q186 dX0_value_94 h (fun v94 h => ?_)
    refine zv_goto X (tgt := 241) dX0_value_97 (by decide) ?_
    exact zv_iret X rfl (by first | exact Nat.le_of_ble_eq_true rfl | omega | (dsimp only; omega)) (by first | exact Nat.le_of_ble_eq_true rfl | omega | (dsimp only; omega)) dX0_value_241 ⟨h, rfl⟩
  have h := h.2 z1_1
  by_cases z1_2 : x1 = 2
  · have h := h.1 z1_2
    refine zv_tableIn X (off := 99) (tgt := 100) dX0_value_1 (by rw [z1_2]; decide) (by rw [z1_2]; decide) (by rw [z1_2]; decide) (by decide) ?_
    refine zv_aload_n X 0 dX0_value_100 rfl ?_
    refine zv_getf_r X fo_q402 dX0_value_101 h (fun v101 h => ?_)
    refine zv_getf_i X fo_q188 dX0_value_104 h (fun v104 h => ?_)
    refine zv_goto X (tgt := 241) dX0_value_107 (by decide) ?_
    exact zv_iret X rfl (by first | exact Nat.le_of_ble_eq_true rfl | omega | (dsimp only; omega)) (by first | exact Nat.le_of_ble_eq_true rfl | omega | (dsimp only; omega)) dX0_value_241 ⟨h, rfl⟩
  have h := h.2 z1_2
  by_cases z1_3 : x1 = 3
  · have h := h.1 z1_3
    refine zv_tableIn X (off := 109) (tgt := 110) dX0_value_1 (by rw [z1_3]; decide) (by rw [z1_3]; decide) (by rw [z1_3]; decide) (by decide) ?_
    refine zv_aload_n X 0 dX0_value_110 rfl ?_
    refine zv_getf_r X fo_q402 dX0_value_111 h (fun v111 h => ?_)
    refine zv_getf_i X fo_q190 dX0_value_114 h (fun v114 h => ?_)
    refine zv_goto X (tgt := 241) dX0_value_117 (by decide) ?_
    exact zv_iret X rfl (by first | exact Nat.le_of_ble_eq_true rfl | omega | (dsimp only; omega)) (by first | exact Nat.le_of_ble_eq_true rfl | omega | (dsimp only; omega)) dX0_value_241 ⟨h, rfl⟩
  have h := h.2 z1_3
  by_cases z1_4 : x1 = 4
  · have h := h.1 z1_4
    refine zv_tableIn X (off := 119) (tgt := 120) dX0_value_1 (by rw [z1_4]; decide) (by rw [z1_4]; decide) (by rw [z1_4]; decide) (by decide) ?_
    refine zv_aload_n X 0 dX0_value_120 rfl ?_
    refine zv_getf_r X fo_q402 dX0_value_121 h (fun v121 h => ?_)
    refine zv_getf_r X fo_q192 dX0_value_124 h (fun v124 h => ?_)
    refine zv_ciR ((zr_Vl X (As := []) (rest := []) h (fun a h => wk_J2_size l h) (zk_l1 ⟨_, rfl, cwV 0 X.hts (lw_V q672 q362 q363 q106 q364) rfl rfl rfl ⟨rfl, md_J2_size⟩ ⟨Nat.le_of_ble_eq_true rfl, Nat.le_of_ble_eq_true rfl⟩⟩) rfl rfl (zk_rs (Nat.le_of_ble_eq_true rfl)) dX0_value_127 ⟨by first | exact Nat.le_of_ble_eq_true rfl | omega | (dsimp only; omega), by first | exact Nat.le_of_ble_eq_true rfl | omega | (dsimp only; omega)⟩)) (fun v127 h => ?_)
    refine zv_goto X (tgt := 241) dX0_value_130 (by decide) ?_
    exact zv_iret X rfl (by first | exact Nat.le_of_ble_eq_true rfl | omega | (dsimp only; omega)) (by first | exact Nat.le_of_ble_eq_true rfl | omega | (dsimp only; omega)) dX0_value_241 ⟨h, rfl⟩
  have h := h.2 z1_4
  by_cases z1_5 : x1 = 5
  · have h := h.1 z1_5
    refine zv_tableIn X (off := 132) (tgt := 133) dX0_value_1 (by rw [z1_5]; decide) (by rw [z1_5]; decide) (by rw [z1_5]; decide) (by decide) ?_
    refine zv_aload_n X 0 dX0_value_133 rfl ?_
    refine zv_getf_r X fo_q402 dX0_value_134 h (fun v134 h => ?_)
    refine zv_getf_r X fo_q195 dX0_value_137 h (fun v137 h => ?_)
    refine zv_ciR ((zr_Vl X (As := []) (rest := []) h (fun a h => wk_J2_size l h) (zk_l1 ⟨_, rfl, cwV 0 X.hts (lw_V q672 q362 q363 q106 q364) rfl rfl rfl ⟨rfl, md_J2_size⟩ ⟨Nat.le_of_ble_eq_true rfl, Nat.le_of_ble_eq_true rfl⟩⟩) rfl rfl (zk_rs (Nat.le_of_ble_eq_true rfl)) dX0_value_140 ⟨by first | exact Nat.le_of_ble_eq_true rfl | omega | (dsimp only; omega), by first | exact Nat.le_of_ble_eq_true rfl | omega | (dsimp only; omega)⟩)) (fun v140 h => ?_)
    refine zv_goto X (tgt := 241) dX0_value_143 (by decide) ?_
    exact zv_iret X rfl (by first | exact Nat.le_of_ble_eq_true rfl | omega | (dsimp only; omega)) (by first | exact Nat.le_of_ble_eq_true rfl | omega | (dsimp only; omega)) dX0_value_241 ⟨h, rfl⟩
  have h := h.2 z1_5
  by_cases z1_6 : x1 = 6
  · have h := h.1 z1_6
    refine zv_tableIn X (off := 145) (tgt := 146) dX0_value_1 (by rw [z1_6]; decide) (by rw [z1_6]; decide) (by rw [z1_6]; decide) (by decide) ?_
    refine zv_aload_n X 0 dX0_value_146 rfl ?_
    refine zv_ciR ((zr_Vl X (As := []) (rest := []) h (fun a h => wk_X0_live l h) (zk_l1 ⟨_, rfl, cwV 0 X.hts (lw_V q1587 q1589 qs37 q102 q1590) rfl rfl rfl ⟨rfl, md_X0_live⟩ ⟨Nat.le_of_ble_eq_true rfl, Nat.le_of_ble_eq_true rfl⟩⟩) rfl rfl (zk_rs (Nat.le_of_ble_eq_true rfl)) dX0_value_147 ⟨by first | exact Nat.le_of_ble_eq_true rfl | omega | (dsimp only; omega), by first | exact Nat.le_of_ble_eq_true rfl | omega | (dsimp only; omega)⟩)) (fun v147 h => ?_)
    refine zv_goto X (tgt := 241) dX0_value_150 (by decide) ?_
    exact zv_iret X rfl (by first | exact Nat.le_of_ble_eq_true rfl | omega | (dsimp only; omega)) (by first | exact Nat.le_of_ble_eq_true rfl | omega | (dsimp only; omega)) dX0_value_241 ⟨h, rfl⟩
  have h := h.2 z1_6
  by_cases z1_7 : x1 = 7
  · have h := h.1 z1_7
    refine zv_tableIn X (off := 152) (tgt := 153) dX0_value_1 (by rw [z1_7]; decide) (by rw [z1_7]; decide) (by rw [z1_7]; decide) (by decide) ?_
    refine zv_aload_n X 0 dX0_value_153 rfl ?_
    refine zv_ciR ((zr_Vl X (As := []) (rest := []) h (fun a h => wk_X0_barred l h) (zk_l1 ⟨_, rfl, cwV 0 X.hts (lw_V q1571 q1573 qs36 q102 q1574) rfl rfl rfl ⟨rfl, md_X0_barred⟩ ⟨Nat.le_of_ble_eq_true rfl, Nat.le_of_ble_eq_true rfl⟩⟩) rfl rfl (zk_rs (Nat.le_of_ble_eq_true rfl)) dX0_value_154 ⟨by first | exact Nat.le_of_ble_eq_true rfl | omega | (dsimp only; omega), by first | exact Nat.le_of_ble_eq_true rfl | omega | (dsimp only; omega)⟩)) (fun v154 h => ?_)
    refine zv_goto X (tgt := 241) dX0_value_157 (by decide) ?_
    exact zv_iret X rfl (by first | exact Nat.le_of_ble_eq_true rfl | omega | (dsimp only; omega)) (by first | exact Nat.le_of_ble_eq_true rfl | omega | (dsimp only; omega)) dX0_value_241 ⟨h, rfl⟩
  have h := h.2 z1_7
  by_cases z1_8 : x1 = 8
  · have h := h.1 z1_8
    refine zv_tableIn X (off := 159) (tgt := 160) dX0_value_1 (by rw [z1_8]; decide) (by rw [z1_8]; decide) (by rw [z1_8]; decide) (by decide) ?_
    refine zv_aload_n X 0 dX0_value_160 rfl ?_
    refine zv_getf_r X fo_q402 dX0_value_161 h (fun v161 h => ?_)
    refine zv_getf_r X fo_q198 dX0_value_164 h (fun v164 h => ?_)
    refine zv_ciR ((zr_Vl X (As := []) (rest := []) h (fun a h => wk_J2_size l h) (zk_l1 ⟨_, rfl, cwV 0 X.hts (lw_V q672 q362 q363 q106 q364) rfl rfl rfl ⟨rfl, md_J2_size⟩ ⟨Nat.le_of_ble_eq_true rfl, Nat.le_of_ble_eq_true rfl⟩⟩) rfl rfl (zk_rs (Nat.le_of_ble_eq_true rfl)) dX0_value_167 ⟨by first | exact Nat.le_of_ble_eq_true rfl | omega | (dsimp only; omega), by first | exact Nat.le_of_ble_eq_true rfl | omega | (dsimp only; omega)⟩)) (fun v167 h => ?_)
    refine zv_goto X (tgt := 241) dX0_value_170 (by decide) ?_
    exact zv_iret X rfl (by first | exact Nat.le_of_ble_eq_true rfl | omega | (dsimp only; omega)) (by first | exact Nat.le_of_ble_eq_true rfl | omega | (dsimp only; omega)) dX0_value_241 ⟨h, rfl⟩
  have h := h.2 z1_8
  by_cases z1_9 : x1 = 9
  · have h := h.1 z1_9
    refine zv_tableIn X (off := 172) (tgt := 173) dX0_value_1 (by rw [z1_9]; decide) (by rw [z1_9]; decide) (by rw [z1_9]; decide) (by decide) ?_
    refine zv_aload_n X 0 dX0_value_173 rfl ?_
    refine zv_getf_r X fo_q402 dX0_value_174 h (fun v174 h => ?_)
    refine zv_getf_r X fo_q201 dX0_value_177 h (fun v177 h => ?_)
    refine zv_ciR ((zr_Vl X (As := []) (rest := []) h (fun a h => wk_J2_size l h) (zk_l1 ⟨_, rfl, cwV 0 X.hts (lw_V q672 q362 q363 q106 q364) rfl rfl rfl ⟨rfl, md_J2_size⟩ ⟨Nat.le_of_ble_eq_true rfl, Nat.le_of_ble_eq_true rfl⟩⟩) rfl rfl (zk_rs (Nat.le_of_ble_eq_true rfl)) dX0_value_180 ⟨by first | exact Nat.le_of_ble_eq_true rfl | omega | (dsimp only; omega), by first | exact Nat.le_of_ble_eq_true rfl | omega | (dsimp only; omega)⟩)) (fun v180 h => ?_)
    refine zv_goto X (tgt := 241) dX0_value_183 (by decide) ?_
    exact zv_iret X rfl (by first | exact Nat.le_of_ble_eq_true rfl | omega | (dsimp only; omega)) (by first | exact Nat.le_of_ble_eq_true rfl | omega | (dsimp only; omega)) dX0_value_241 ⟨h, rfl⟩
  have h := h.2 z1_9
  by_cases z1_10 : x1 = 10
  · have h := h.1 z1_10
    refine zv_tableIn X (off := 185) (tgt := 186) dX0_value_1 (by rw [z1_10]; decide) (by rw [z1_10]; decide) (by rw [z1_10]; decide) (by decide) ?_
    refine zv_aload_n X 0 dX0_value_186 rfl ?_
    refine zv_ciR ((zr_Vl X (As := []) (rest := []) h (fun a h => wk_X0_open l h) (zk_l1 ⟨_, rfl, cwV 0 X.hts (lw_V q1591 q1593 qs38 q102 q1594) rfl rfl rfl ⟨rfl, md_X0_open⟩ ⟨Nat.le_of_ble_eq_true rfl, Nat.le_of_ble_eq_true rfl⟩⟩) rfl rfl (zk_rs (Nat.le_of_ble_eq_true rfl)) dX0_value_187 ⟨by first | exact Nat.le_of_ble_eq_true rfl | omega | (dsimp only; omega), by first | exact Nat.le_of_ble_eq_true rfl | omega | (dsimp only; omega)⟩)) (fun v187 h => ?_)
    refine zv_goto X (tgt := 241) dX0_value_190 (by decide) ?_
    exact zv_iret X rfl (by first | exact Nat.le_of_ble_eq_true rfl | omega | (dsimp only; omega)) (by first | exact Nat.le_of_ble_eq_true rfl | omega | (dsimp only; omega)) dX0_value_241 ⟨h, rfl⟩
  have h := h.2 z1_10
  by_cases z1_11 : x1 = 11
  · have h := h.1 z1_11
    refine zv_tableIn X (off := 192) (tgt := 193) dX0_value_1 (by rw [z1_11]; decide) (by rw [z1_11]; decide) (by rw [z1_11]; decide) (by decide) ?_
    refine zv_aload_n X 0 dX0_value_193 rfl ?_
    refine zv_ciR ((zr_Vl X (As := []) (rest := []) h (fun a h => wk_X0_allAmounts l h) (zk_l1 ⟨_, rfl, cwV 0 X.hts (lw_V q1596 q1598 qs39 q102 q1599) rfl rfl rfl ⟨rfl, md_X0_allAmounts⟩ ⟨Nat.le_of_ble_eq_true rfl, Nat.le_of_ble_eq_true rfl⟩⟩) rfl rfl (zk_rs (Nat.le_of_ble_eq_true rfl)) dX0_value_194 ⟨by first | exact Nat.le_of_ble_eq_true rfl | omega | (dsimp only; omega), by first | exact Nat.le_of_ble_eq_true rfl | omega | (dsimp only; omega)⟩)) (fun v194 h => ?_)
    refine zv_goto X (tgt := 241) dX0_value_197 (by decide) ?_
    exact zv_iret X rfl (by first | exact Nat.le_of_ble_eq_true rfl | omega | (dsimp only; omega)) (by first | exact Nat.le_of_ble_eq_true rfl | omega | (dsimp only; omega)) dX0_value_241 ⟨h, rfl⟩
  have h := h.2 z1_11
  by_cases z1_12 : x1 = 12
  · have h := h.1 z1_12
    refine zv_tableIn X (off := 199) (tgt := 200) dX0_value_1 (by rw [z1_12]; decide) (by rw [z1_12]; decide) (by rw [z1_12]; decide) (by decide) ?_
    refine zv_aload_n X 0 dX0_value_200 rfl ?_
    refine zv_getf_r X fo_q402 dX0_value_201 h (fun v201 h => ?_)
    refine zv_ciR ((zr_Vl X (As := []) (rest := []) h (fun a h => wk_X1_unsf l h) (zk_l1 ⟨_, rfl, cwV 0 X.hts (lw_V q1600 q1601 q1602 q103 q1603) rfl rfl rfl ⟨by decide +kernel, md_X1_unsf⟩ ⟨Nat.le_of_ble_eq_true rfl, Nat.le_of_ble_eq_true rfl⟩⟩) rfl rfl (zk_rs (Nat.le_of_ble_eq_true rfl)) dX0_value_204 ⟨by first | exact Nat.le_of_ble_eq_true rfl | omega | (dsimp only; omega), by first | exact Nat.le_of_ble_eq_true rfl | omega | (dsimp only; omega)⟩)) (fun v204 h => ?_)
    refine zv_goto X (tgt := 241) dX0_value_207 (by decide) ?_
    exact zv_iret X rfl (by first | exact Nat.le_of_ble_eq_true rfl | omega | (dsimp only; omega)) (by first | exact Nat.le_of_ble_eq_true rfl | omega | (dsimp only; omega)) dX0_value_241 ⟨h, rfl⟩
  have h := h.2 z1_12
  by_cases z1_13 : x1 = 13
  · have h := h.1 z1_13
    refine zv_tableIn X (off := 209) (tgt := 210) dX0_value_1 (by rw [z1_13]; decide) (by rw [z1_13]; decide) (by rw [z1_13]; decide) (by decide) ?_
    refine zv_aload_n X 0 dX0_value_210 rfl ?_
    refine zv_ciR ((zr_Vl X (As := []) (rest := []) h (fun a h => wk_X0_pairs l h) (zk_l1 ⟨_, rfl, cwV 0 X.hts (lw_V q1606 q1608 qs40 q102 q1609) rfl rfl rfl ⟨rfl, md_X0_pairs⟩ ⟨Nat.le_of_ble_eq_true rfl, Nat.le_of_ble_eq_true rfl⟩⟩) rfl rfl (zk_rs (Nat.le_of_ble_eq_true rfl)) dX0_value_211 ⟨by first | exact Nat.le_of_ble_eq_true rfl | omega | (dsimp only; omega), by first | exact Nat.le_of_ble_eq_true rfl | omega | (dsimp only; omega)⟩)) (fun v211 h => ?_)
    refine zv_goto X (tgt := 241) dX0_value_214 (by decide) ?_
    exact zv_iret X rfl (by first | exact Nat.le_of_ble_eq_true rfl | omega | (dsimp only; omega)) (by first | exact Nat.le_of_ble_eq_true rfl | omega | (dsimp only; omega)) dX0_value_241 ⟨h, rfl⟩
  have h := h.2 z1_13
  by_cases z1_14 : x1 = 14
  · have h := h.1 z1_14
    refine zv_tableIn X (off := 216) (tgt := 217) dX0_value_1 (by rw [z1_14]; decide) (by rw [z1_14]; decide) (by rw [z1_14]; decide) (by decide) ?_
    refine zv_aload_n X 0 dX0_value_217 rfl ?_
    refine zv_getf_r X fo_q402 dX0_value_218 h (fun v218 h => ?_)
    refine zv_getf_r X fo_q204 dX0_value_221 h (fun v221 h => ?_)
    refine zv_ciR ((zr_Vl X (As := []) (rest := []) h (fun a h => wk_J2_size l h) (zk_l1 ⟨_, rfl, cwV 0 X.hts (lw_V q672 q362 q363 q106 q364) rfl rfl rfl ⟨rfl, md_J2_size⟩ ⟨Nat.le_of_ble_eq_true rfl, Nat.le_of_ble_eq_true rfl⟩⟩) rfl rfl (zk_rs (Nat.le_of_ble_eq_true rfl)) dX0_value_224 ⟨by first | exact Nat.le_of_ble_eq_true rfl | omega | (dsimp only; omega), by first | exact Nat.le_of_ble_eq_true rfl | omega | (dsimp only; omega)⟩)) (fun v224 h => ?_)
    refine zv_goto X (tgt := 241) dX0_value_227 (by decide) ?_
    exact zv_iret X rfl (by first | exact Nat.le_of_ble_eq_true rfl | omega | (dsimp only; omega)) (by first | exact Nat.le_of_ble_eq_true rfl | omega | (dsimp only; omega)) dX0_value_241 ⟨h, rfl⟩
  have h := h.2 z1_14
  by_cases z1_15 : x1 = 15
  · have h := h.1 z1_15
    refine zv_tableIn X (off := 229) (tgt := 230) dX0_value_1 (by rw [z1_15]; decide) (by rw [z1_15]; decide) (by rw [z1_15]; decide) (by decide) ?_
    refine zv_aload_n X 0 dX0_value_230 rfl ?_
    refine zv_getf_r X fo_q403 dX0_value_231 h (fun v231 h => ?_)
    refine zv_ciR ((zr_Vl X (As := []) (rest := []) h (fun a h => wk_J6_size l h) (zk_l1 ⟨_, rfl, cwV 0 X.hts (lw_V q448 q449 q450 q113 q451) rfl rfl rfl ⟨rfl, md_J6_size⟩ ⟨Nat.le_of_ble_eq_true rfl, Nat.le_of_ble_eq_true rfl⟩⟩) rfl rfl (zk_rs (Nat.le_of_ble_eq_true rfl)) dX0_value_234 ⟨by first | exact Nat.le_of_ble_eq_true rfl | omega | (dsimp only; omega), by first | exact Nat.le_of_ble_eq_true rfl | omega | (dsimp only; omega)⟩)) (fun v234 h => ?_)
    refine zv_goto X (tgt := 241) dX0_value_237 (by decide) ?_
    exact zv_iret X rfl (by first | exact Nat.le_of_ble_eq_true rfl | omega | (dsimp only; omega)) (by first | exact Nat.le_of_ble_eq_true rfl | omega | (dsimp only; omega)) dX0_value_241 ⟨h, rfl⟩
  have h := h.2 z1_15
  have z1_0 := zk_tn (n := 0) (by decide) z1_0
  have z1_1 := zk_tn (n := 1) (by decide) z1_1
  have z1_2 := zk_tn (n := 2) (by decide) z1_2
  have z1_3 := zk_tn (n := 3) (by decide) z1_3
  have z1_4 := zk_tn (n := 4) (by decide) z1_4
  have z1_5 := zk_tn (n := 5) (by decide) z1_5
  have z1_6 := zk_tn (n := 6) (by decide) z1_6
  have z1_7 := zk_tn (n := 7) (by decide) z1_7
  have z1_8 := zk_tn (n := 8) (by decide) z1_8
  have z1_9 := zk_tn (n := 9) (by decide) z1_9
  have z1_10 := zk_tn (n := 10) (by decide) z1_10
  have z1_11 := zk_tn (n := 11) (by decide) z1_11
  have z1_12 := zk_tn (n := 12) (by decide) z1_12
  have z1_13 := zk_tn (n := 13) (by decide) z1_13
  have z1_14 := zk_tn (n := 14) (by decide) z1_14
  have z1_15 := zk_tn (n := 15) (by decide) z1_15
  refine zv_tableOut X (tgt := 240) dX0_value_1 (by omega) (by decide) ?_
  refine zv_iconst X (v := -1) dX0_value_240 rfl ?_
  exact zv_iret X rfl (by first | exact Nat.le_of_ble_eq_true rfl | omega | (dsimp only; omega)) (by first | exact Nat.le_of_ble_eq_true rfl | omega | (dsimp only; omega)) dX0_value_241 ⟨h, rfl⟩
theorem kj_X0_holders_45 {p : Program} {l : Launch} {e : Env} {s : State} {m : MethodId} {args : Array Value} {below : List Frame} {meth : Method} {c : Code} {D : zk_G} {g : zk_M} {b0 : Nat} (X : zk_X p s m args meth c D g b0 cX0_holders 7 "LandFolio" "holders" (some Jvm.ClassFile.FieldType.int)) {post : Int32 → Prop} {K21 : Int32 → Int32 → Prop} {a3 : Option Nat} {a4 : Int32} {a5 : Int32} {s0 : Int32} {s1 : Int32} {P : zk_H}  (hK21 : ∀ (u2 : Int32) (u5 : Int32), K21 u2 u5 → zV p l e ({ frames := 5, cells := 0, slots := 0, locals := 110 } : Room) s m args below meth c D b0 7 (0) (0) (MQ below (va_Qi (fun r u => post r ∧ u = P) (zk_B D b0) (zk_A b0)) args s 0 0 (zk_A b0)) P 21 [(2, .int (u2)), (3, va_rf (a3)), (4, .int (a4)), (5, .int (u5))] [])  (hh : wj_X0_holders_45 post K21 a3 a4 a5 s0 s1 P) : zV p l e ({ frames := 5, cells := 0, slots := 0, locals := 110 } : Room) s m args below meth c D b0 7 (0) (0) (MQ below (va_Qi (fun r u => post r ∧ u = P) (zk_B D b0) (zk_A b0)) args s 0 0 (zk_A b0)) P 45 [(3, va_rf (a3)), (4, .int (a4)), (5, .int (a5))] [.int (s0), .int (s1)] := by
  have h := hh
  unfold wj_X0_holders_45 at h
  refine zv_iadd X dX0_holders_45 ?_
  refine zv_top_i h (fun v46 h => ?_)
  refine zv_istore_n X (i := 2) (L' := [(2, .int (v46)), (3, va_rf (a3)), (4, .int (a4)), (5, .int (a5))]) dX0_holders_46 rfl (by decide) rfl ?_
  obtain ⟨v47, e47, h⟩ := zt_e h
  refine zv_iinc X (v := v47) (L' := [(5, .int (v47)), (2, .int (v46)), (3, va_rf (a3)), (4, .int (a4))]) 3 dX0_holders_47 rfl e47 (by decide) rfl ?_
  refine zv_goto X (tgt := 21) dX0_holders_50 (by decide) ?_
  refine zv_sub (L' := [(2, .int (v46)), (3, va_rf (a3)), (4, .int (a4)), (5, .int (v47))]) [1, 2, 3, 0] rfl ?_
  exact hK21 _ _ h
theorem kb_X0_holders_21 {p : Program} {l : Launch} {e : Env} {s : State} {m : MethodId} {args : Array Value} {below : List Frame} {meth : Method} {c : Code} {D : zk_G} {g : zk_M} {b0 : Nat} (X : zk_X p s m args meth c D g b0 cX0_holders 7 "LandFolio" "holders" (some Jvm.ClassFile.FieldType.int)) {post : Int32 → Prop}  {K21 : Int32 → Int32 → Prop} {a2 : Int32} {a3 : Option Nat} {a4 : Int32} {a5 : Int32} {P : zk_H}   (hK21 : ∀ (u2 : Int32) (u5 : Int32), K21 u2 u5 → zV p l e ({ frames := 5, cells := 0, slots := 0, locals := 110 } : Room) s m args below meth c D b0 7 (0) (0) (MQ below (va_Qi (fun r u => post r ∧ u = P) (zk_B D b0) (zk_A b0)) args s 0 0 (zk_A b0)) P 21 [(2, .int (u2)), (3, va_rf (a3)), (4, .int (a4)), (5, .int (u5))] [])  (hh : wb_X0_holders_21 post a3 a4 P K21 a2 a5) : zV p l e ({ frames := 5, cells := 0, slots := 0, locals := 110 } : Room) s m args below meth c D b0 7 (0) (0) (MQ below (va_Qi (fun r u => post r ∧ u = P) (zk_B D b0) (zk_A b0)) args s 0 0 (zk_A b0)) P 21 [(2, .int (a2)), (3, va_rf (a3)), (4, .int (a4)), (5, .int (a5))] [] := by
  have h := hh
  unfold wb_X0_holders_21 at h
  refine zv_iload X 3 dX0_holders_21 rfl ?_
  refine zv_iload X 2 dX0_holders_23 rfl ?_
  refine zv_icmp_ge X (tgt := 53) dX0_holders_25 (by decide) h (fun h => ?_) (fun h => ?_)
  · refine zv_iload_n X 0 dX0_holders_53 rfl ?_
    exact zv_iret X rfl (by first | exact Nat.le_of_ble_eq_true rfl | omega | (dsimp only; omega)) (by first | exact Nat.le_of_ble_eq_true rfl | omega | (dsimp only; omega)) dX0_holders_54 ⟨h, rfl⟩
  · refine zv_aload_n X 1 dX0_holders_28 rfl ?_
    refine zv_iload X 3 dX0_holders_29 rfl ?_
    refine zv_iald X dX0_holders_31 h (fun v31 h => ?_)
    refine zv_istore X (L' := [(6, .int (v31)), (2, .int (a2)), (3, va_rf (a3)), (4, .int (a4)), (5, .int (a5))]) dX0_holders_32 (by decide) rfl ?_
    refine zv_iload_n X 1 dX0_holders_34 rfl ?_
    refine zv_iload X 0 dX0_holders_35 rfl ?_
    refine zv_if_le X (tgt := 44) dX0_holders_37 (by decide) h (fun h => ?_) (fun h => ?_)
    · refine zv_iconst X (v := 0) dX0_holders_44 rfl ?_
      refine zv_sub (L' := [(3, va_rf (a3)), (4, .int (a4)), (5, .int (a5))]) [2, 3, 4] rfl ?_
      exact kj_X0_holders_45 X hK21 h
    · refine zv_iconst X (v := 1) dX0_holders_40 rfl ?_
      refine zv_goto X (tgt := 45) dX0_holders_41 (by decide) ?_
      refine zv_sub (L' := [(3, va_rf (a3)), (4, .int (a4)), (5, .int (a5))]) [2, 3, 4] rfl ?_
      exact kj_X0_holders_45 X hK21 h
theorem kl_X0_holders_21 {p : Program} {l : Launch} {e : Env} {s : State} {m : MethodId} {args : Array Value} {below : List Frame} {meth : Method} {c : Code} {D : zk_G} {g : zk_M} {b0 : Nat} (X : zk_X p s m args meth c D g b0 cX0_holders 7 "LandFolio" "holders" (some Jvm.ClassFile.FieldType.int)) {post : Int32 → Prop}  {a3 : Option Nat} {a4 : Int32} {P : zk_H}   : ∀ (n : Nat) (a2 : Int32) (a5 : Int32), wl_X0_holders_21 post a3 a4 P n a2 a5 → zV p l e ({ frames := 5, cells := 0, slots := 0, locals := 110 } : Room) s m args below meth c D b0 7 (0) (0) (MQ below (va_Qi (fun r u => post r ∧ u = P) (zk_B D b0) (zk_A b0)) args s 0 0 (zk_A b0)) P 21 [(2, .int (a2)), (3, va_rf (a3)), (4, .int (a4)), (5, .int (a5))] [] := by
  intro n
  induction n with
  | zero => intro _ _ h; exact h.elim
  | succ n ih =>
    intro a2 a5 h
    exact kb_X0_holders_21 X  (fun u0 u1 h => ih _ _ h)  h
theorem md_X0_holders : yX0_holders.cls ≠ "java/lang/invoke/MethodHandle" ∧ yX0_holders.cls ≠ "java/lang/invoke/VarHandle" ∧ (parseMethodDescriptor yX0_holders.desc).map (fun d => d.parameters.length) = some 1 := by decide +kernel
theorem wk_X0_holders (l : Launch) {D : zk_G} {g : zk_M} {b0 : Nat} {post : Int32 → Prop} {this : Nat} {x1 : Int32} {P : zk_H} (hh : wp_X0_holders post this x1 P) : Met l yX0_holders (ws_ yX0_holders cX0_holders 7 (some Jvm.ClassFile.FieldType.int)) ({ frames := 5, cells := 0, slots := 0, locals := 110 } : Room) (va_Pc [.ref this, .int (x1)] (zk_pre D g b0 P)) (va_Qi (fun r u => post r ∧ u = P) (zk_B D b0) (zk_A b0)) 0 0 (zk_A b0) := by
  refine zk_enter "LandFolio" "holders" rfl rfl (plainFor_of_name (by decide)) [.ref this, .int (x1)] (Nat.le_of_ble_eq_true rfl) ?_
  intro p e s m args below meth c X
  refine zk_at0 (L' := [(0, va_rf (some this)), (1, .int (x1))]) (rfl) ?_
  have h := hh
  unfold wp_X0_holders at h
  refine zv_iconst X (v := 0) dX0_holders_0 rfl ?_
  refine zv_istore_n X (i := 2) (L' := [(2, .int (0)), (0, va_rf (some this)), (1, .int (x1))]) dX0_holders_1 rfl (by decide) rfl ?_
  refine zv_aload_n X 1 dX0_holders_2 rfl ?_
  refine zv_getf_r X fo_q402 dX0_holders_3 h (fun v3 h => ?_)
  refine zv_iload_n X 2 dX0_holders_6 rfl ?_
  refine zv_cqR ((zr_Vl X (As := [.int (x1)]) (rest := []) h (fun a h => wk_X1_deed l h) (zk_l1 ⟨_, rfl, cwV 1 X.hts (lw_V q1460 q1190 q1191 q103 q1192) rfl rfl rfl ⟨rfl, md_X1_deed⟩ ⟨Nat.le_of_ble_eq_true rfl, Nat.le_of_ble_eq_true rfl⟩⟩) rfl rfl (zk_rs (Nat.le_of_ble_eq_true rfl)) dX0_holders_7 ⟨by first | exact Nat.le_of_ble_eq_true rfl | omega | (dsimp only; omega), by first | exact Nat.le_of_ble_eq_true rfl | omega | (dsimp only; omega)⟩)) (fun v7 h => ?_)
  refine zv_getf_r X fo_q376 dX0_holders_10 h (fun v10 h => ?_)
  refine zv_astore_n X (i := 3) (L' := [(3, va_rf (v10)), (2, .int (0)), (0, va_rf (some this)), (1, .int (x1))]) dX0_holders_13 rfl (by decide) rfl ?_
  refine zv_aload_n X 0 dX0_holders_14 rfl ?_
  refine zv_alen X dX0_holders_15 h (fun v15 h => ?_)
  refine zv_istore X (L' := [(4, .int (v15)), (3, va_rf (v10)), (2, .int (0)), (0, va_rf (some this)), (1, .int (x1))]) dX0_holders_16 (by decide) (by simp [zk_s1, zk_s2, zk_rc, zk_ic, zk_jc]) ?_
  refine zv_iconst X (v := 0) dX0_holders_18 rfl ?_
  refine zv_istore X (L' := [(5, .int (0)), (4, .int (v15)), (3, va_rf (v10)), (2, .int (0)), (0, va_rf (some this)), (1, .int (x1))]) dX0_holders_19 (by decide) rfl ?_
  refine zv_sub (L' := [(2, .int (0)), (3, va_rf (v10)), (4, .int (v15)), (5, .int (0))]) [3, 2, 1, 0] rfl ?_
  obtain ⟨n19, h⟩ := h
  exact kl_X0_holders_21 X  n19 _ _ h
theorem kj_X1_load_56 {p : Program} {l : Launch} {e : Env} {s : State} {m : MethodId} {args : Array Value} {below : List Frame} {meth : Method} {c : Code} {D : zk_G} {g : zk_M} {b0 : Nat} (X : zk_X p s m args meth c D g b0 cX1_load 6 "LandFolio$Folio" "load" (some Jvm.ClassFile.FieldType.int)) {post : Int32 → Prop} {K4 : Int32 → Int32 → Prop} {a0 : Option Nat} {a1 : Int32} {a3 : Int32} {s0 : Int32} {s1 : Int32} {P : zk_H}  (hK4 : ∀ (u2 : Int32) (u3 : Int32), K4 u2 u3 → zV p l e ({ frames := 4, cells := 0, slots := 0, locals := 85 } : Room) s m args below meth c D b0 6 (0) (0) (MQ below (va_Qi (fun r u => post r ∧ u = P) (zk_B D b0) (zk_A b0)) args s 0 0 (zk_A b0)) P 4 [(0, va_rf (a0)), (1, .int (a1)), (2, .int (u2)), (3, .int (u3))] [])  (hh : wj_X1_load_56 post K4 a0 a1 a3 s0 s1 P) : zV p l e ({ frames := 4, cells := 0, slots := 0, locals := 85 } : Room) s m args below meth c D b0 6 (0) (0) (MQ below (va_Qi (fun r u => post r ∧ u = P) (zk_B D b0) (zk_A b0)) args s 0 0 (zk_A b0)) P 56 [(0, va_rf (a0)), (1, .int (a1)), (3, .int (a3))] [.int (s0), .int (s1)] := by
  have h := hh
  unfold wj_X1_load_56 at h
  refine zv_iadd X dX1_load_56 ?_
  refine zv_top_i h (fun v57 h => ?_)
  refine zv_istore_n X (i := 2) (L' := [(2, .int (v57)), (0, va_rf (a0)), (1, .int (a1)), (3, .int (a3))]) dX1_load_57 rfl (by decide) rfl ?_
  obtain ⟨v58, e58, h⟩ := zt_e h
  refine zv_iinc X (v := v58) (L' := [(3, .int (v58)), (2, .int (v57)), (0, va_rf (a0)), (1, .int (a1))]) 3 dX1_load_58 rfl e58 (by decide) rfl ?_
  refine zv_goto X (tgt := 4) dX1_load_61 (by decide) ?_
  refine zv_sub (L' := [(0, va_rf (a0)), (1, .int (a1)), (2, .int (v57)), (3, .int (v58))]) [2, 3, 1, 0] rfl ?_
  exact hK4 _ _ h
theorem kj_X1_load_55 {p : Program} {l : Launch} {e : Env} {s : State} {m : MethodId} {args : Array Value} {below : List Frame} {meth : Method} {c : Code} {D : zk_G} {g : zk_M} {b0 : Nat} (X : zk_X p s m args meth c D g b0 cX1_load 6 "LandFolio$Folio" "load" (some Jvm.ClassFile.FieldType.int)) {post : Int32 → Prop} {K4 : Int32 → Int32 → Prop} {a0 : Option Nat} {a1 : Int32} {a3 : Int32} {s0 : Int32} {P : zk_H}  (hK4 : ∀ (u2 : Int32) (u3 : Int32), K4 u2 u3 → zV p l e ({ frames := 4, cells := 0, slots := 0, locals := 85 } : Room) s m args below meth c D b0 6 (0) (0) (MQ below (va_Qi (fun r u => post r ∧ u = P) (zk_B D b0) (zk_A b0)) args s 0 0 (zk_A b0)) P 4 [(0, va_rf (a0)), (1, .int (a1)), (2, .int (u2)), (3, .int (u3))] [])  (hh : wj_X1_load_55 post K4 a0 a1 a3 s0 P) : zV p l e ({ frames := 4, cells := 0, slots := 0, locals := 85 } : Room) s m args below meth c D b0 6 (0) (0) (MQ below (va_Qi (fun r u => post r ∧ u = P) (zk_B D b0) (zk_A b0)) args s 0 0 (zk_A b0)) P 55 [(0, va_rf (a0)), (1, .int (a1)), (3, .int (a3))] [.int (s0)] := by
  have h := hh
  unfold wj_X1_load_55 at h
  refine zv_iconst X (v := 0) dX1_load_55 rfl ?_
  exact kj_X1_load_56 X hK4 h
theorem kb_X1_load_4 {p : Program} {l : Launch} {e : Env} {s : State} {m : MethodId} {args : Array Value} {below : List Frame} {meth : Method} {c : Code} {D : zk_G} {g : zk_M} {b0 : Nat} (X : zk_X p s m args meth c D g b0 cX1_load 6 "LandFolio$Folio" "load" (some Jvm.ClassFile.FieldType.int)) {post : Int32 → Prop}  {K4 : Int32 → Int32 → Prop} {a0 : Option Nat} {a1 : Int32} {a2 : Int32} {a3 : Int32} {P : zk_H}   (hK4 : ∀ (u2 : Int32) (u3 : Int32), K4 u2 u3 → zV p l e ({ frames := 4, cells := 0, slots := 0, locals := 85 } : Room) s m args below meth c D b0 6 (0) (0) (MQ below (va_Qi (fun r u => post r ∧ u = P) (zk_B D b0) (zk_A b0)) args s 0 0 (zk_A b0)) P 4 [(0, va_rf (a0)), (1, .int (a1)), (2, .int (u2)), (3, .int (u3))] [])  (hh : wb_X1_load_4 post a0 a1 P K4 a2 a3) : zV p l e ({ frames := 4, cells := 0, slots := 0, locals := 85 } : Room) s m args below meth c D b0 6 (0) (0) (MQ below (va_Qi (fun r u => post r ∧ u = P) (zk_B D b0) (zk_A b0)) args s 0 0 (zk_A b0)) P 4 [(0, va_rf (a0)), (1, .int (a1)), (2, .int (a2)), (3, .int (a3))] [] := by
  have h := hh
  unfold wb_X1_load_4 at h
  refine zv_iload_n X 3 dX1_load_4 rfl ?_
  refine zv_aload_n X 0 dX1_load_5 rfl ?_
  refine zv_getf_r X fo_q199 dX1_load_6 h (fun v6 h => ?_)
  refine zv_ciR ((zr_Vl X (As := []) (rest := [.int (a3)]) h (fun a h => wk_J2_size l h) (zk_l1 ⟨_, rfl, cwV 0 X.hts (lw_V q361 q362 q363 q106 q364) rfl rfl rfl ⟨rfl, md_J2_size⟩ ⟨Nat.le_of_ble_eq_true rfl, Nat.le_of_ble_eq_true rfl⟩⟩) rfl rfl (zk_rs (Nat.le_of_ble_eq_true rfl)) dX1_load_9 ⟨by first | exact Nat.le_of_ble_eq_true rfl | omega | (dsimp only; omega), by first | exact Nat.le_of_ble_eq_true rfl | omega | (dsimp only; omega)⟩)) (fun v9 h => ?_)
  refine zv_icmp_ge X (tgt := 64) dX1_load_12 (by decide) h (fun h => ?_) (fun h => ?_)
  · refine zv_iload_n X 2 dX1_load_64 rfl ?_
    exact zv_iret X rfl (by first | exact Nat.le_of_ble_eq_true rfl | omega | (dsimp only; omega)) (by first | exact Nat.le_of_ble_eq_true rfl | omega | (dsimp only; omega)) dX1_load_65 ⟨h, rfl⟩
  · refine zv_iload_n X 2 dX1_load_15 rfl ?_
    refine zv_aload_n X 0 dX1_load_16 rfl ?_
    refine zv_iload_n X 3 dX1_load_17 rfl ?_
    refine zv_cqR ((zr_Vl X (As := [.int (a3)]) (rest := [.int (a2)]) h (fun a h => wk_X1_burden l h) (zk_l1 ⟨_, rfl, cwV 1 X.hts (lw_V q525 q526 q527 q103 q528) rfl rfl rfl ⟨rfl, md_X1_burden⟩ ⟨Nat.le_of_ble_eq_true rfl, Nat.le_of_ble_eq_true rfl⟩⟩) rfl rfl (zk_rs (Nat.le_of_ble_eq_true rfl)) dX1_load_18 ⟨by first | exact Nat.le_of_ble_eq_true rfl | omega | (dsimp only; omega), by first | exact Nat.le_of_ble_eq_true rfl | omega | (dsimp only; omega)⟩)) (fun v18 h => ?_)
    refine zv_astore X (L' := [(5, va_rf (v18)), (0, va_rf (a0)), (1, .int (a1)), (2, .int (a2)), (3, .int (a3))]) dX1_load_21 (by decide) rfl ?_
    refine zv_aload X 0 dX1_load_23 rfl ?_
    refine zv_inst X zk_cs7 (zk_l1 ⟨_, rfl, X.nc (i := 1) rfl⟩) q1553 dX1_load_25 h (fun v25 h => ?_)
    refine zv_if_eq X (tgt := 55) dX1_load_28 (by decide) h (fun h => ?_) (fun h => ?_)
    · refine zv_sub (L' := [(0, va_rf (a0)), (1, .int (a1)), (3, .int (a3))]) [1, 2, 4] rfl ?_
      exact kj_X1_load_55 X hK4 h
    · refine zv_aload X 0 dX1_load_31 rfl ?_
      refine zv_cast X zk_cs7 q1553 dX1_load_33 h (fun h => ?_)
      refine zv_astore X (L' := [(4, va_rf (v18)), (5, va_rf (v18)), (0, va_rf (a0)), (1, .int (a1)), (2, .int (a2)), (3, .int (a3))]) dX1_load_36 (by decide) rfl ?_
      refine zv_aload X 0 dX1_load_38 rfl ?_
      refine zv_iload_n X 3 dX1_load_40 rfl ?_
      refine zv_ciR ((zr_Ul X (As := [.int (a1)]) (rest := [.int (a2)]) h (fun a h => wk_X7_isOn l h) (zk_l1 ⟨_, rfl, _, va_cwU 1 X.hts (zk_wsU q1554 q1555 q1556 q1207 q127 q1211) rfl rfl rfl rfl md_X7_isOn ⟨Nat.le_of_ble_eq_true rfl, Nat.le_of_ble_eq_true rfl⟩⟩) rfl rfl (zk_rs (Nat.le_of_ble_eq_true rfl)) dX1_load_41 ⟨by first | exact Nat.le_of_ble_eq_true rfl | omega | (dsimp only; omega), by first | exact Nat.le_of_ble_eq_true rfl | omega | (dsimp only; omega)⟩)) (fun v41 h => ?_)
      refine zv_if_eq X (tgt := 55) dX1_load_44 (by decide) h (fun h => ?_) (fun h => ?_)
      · refine zv_sub (L' := [(0, va_rf (a0)), (1, .int (a1)), (3, .int (a3))]) [2, 3, 5] rfl ?_
        exact kj_X1_load_55 X hK4 h
      · refine zv_aload X 0 dX1_load_47 rfl ?_
        refine zv_getf_i X fo_q590 dX1_load_49 h (fun v49 h => ?_)
        refine zv_goto X (tgt := 56) dX1_load_52 (by decide) ?_
        refine zv_sub (L' := [(0, va_rf (a0)), (1, .int (a1)), (3, .int (a3))]) [2, 3, 5] rfl ?_
        exact kj_X1_load_56 X hK4 h
theorem kl_X1_load_4 {p : Program} {l : Launch} {e : Env} {s : State} {m : MethodId} {args : Array Value} {below : List Frame} {meth : Method} {c : Code} {D : zk_G} {g : zk_M} {b0 : Nat} (X : zk_X p s m args meth c D g b0 cX1_load 6 "LandFolio$Folio" "load" (some Jvm.ClassFile.FieldType.int)) {post : Int32 → Prop}  {a0 : Option Nat} {a1 : Int32} {P : zk_H}   : ∀ (n : Nat) (a2 : Int32) (a3 : Int32), wl_X1_load_4 post a0 a1 P n a2 a3 → zV p l e ({ frames := 4, cells := 0, slots := 0, locals := 85 } : Room) s m args below meth c D b0 6 (0) (0) (MQ below (va_Qi (fun r u => post r ∧ u = P) (zk_B D b0) (zk_A b0)) args s 0 0 (zk_A b0)) P 4 [(0, va_rf (a0)), (1, .int (a1)), (2, .int (a2)), (3, .int (a3))] [] := by
  intro n
  induction n with
  | zero => intro _ _ h; exact h.elim
  | succ n ih =>
    intro a2 a3 h
    exact kb_X1_load_4 X  (fun u0 u1 h => ih _ _ h)  h
theorem md_X1_load : yX1_load.cls ≠ "java/lang/invoke/MethodHandle" ∧ yX1_load.cls ≠ "java/lang/invoke/VarHandle" ∧ (parseMethodDescriptor yX1_load.desc).map (fun d => d.parameters.length) = some 1 := by decide +kernel
theorem wk_X1_load (l : Launch) {D : zk_G} {g : zk_M} {b0 : Nat} {post : Int32 → Prop} {this : Nat} {x1 : Int32} {P : zk_H} (hh : wp_X1_load post this x1 P) : Met l yX1_load (ws_ yX1_load cX1_load 6 (some Jvm.ClassFile.FieldType.int)) ({ frames := 4, cells := 0, slots := 0, locals := 85 } : Room) (va_Pc [.ref this, .int (x1)] (zk_pre D g b0 P)) (va_Qi (fun r u => post r ∧ u = P) (zk_B D b0) (zk_A b0)) 0 0 (zk_A b0) := by
  refine zk_enter "LandFolio$Folio" "load" rfl rfl (plainFor_of_name (by decide)) [.ref this, .int (x1)] (Nat.le_of_ble_eq_true rfl) ?_
  intro p e s m args below meth c X
  refine zk_at0 (L' := [(0, va_rf (some this)), (1, .int (x1))]) (rfl) ?_
  have h := hh
  unfold wp_X1_load at h
  refine zv_iconst X (v := 0) dX1_load_0 rfl ?_
  refine zv_istore_n X (i := 2) (L' := [(2, .int (0)), (0, va_rf (some this)), (1, .int (x1))]) dX1_load_1 rfl (by decide) rfl ?_
  refine zv_iconst X (v := 0) dX1_load_2 rfl ?_
  refine zv_istore_n X (i := 3) (L' := [(3, .int (0)), (2, .int (0)), (0, va_rf (some this)), (1, .int (x1))]) dX1_load_3 rfl (by decide) rfl ?_
  refine zv_sub (L' := [(0, va_rf (some this)), (1, .int (x1)), (2, .int (0)), (3, .int (0))]) [2, 3, 1, 0] rfl ?_
  obtain ⟨n3, h⟩ := h
  exact kl_X1_load_4 X  n3 _ _ h
theorem md_X12_init : yX12_init.cls ≠ "java/lang/invoke/MethodHandle" ∧ yX12_init.cls ≠ "java/lang/invoke/VarHandle" ∧ (parseMethodDescriptor yX12_init.desc).map (fun d => d.parameters.length) = some 2 := by decide +kernel
theorem wk_X12_init (l : Launch) {D : zk_G} {g : zk_M} {b0 : Nat} {post : zk_H → Prop} {this : Nat} {x1 : Option Nat} {x2 : Int32} {P : zk_H} (hh : wp_X12_init post this x1 x2 P) : Met l yX12_init (ws_ yX12_init cX12_init 3 none) ({ frames := 1, cells := 0, slots := 0, locals := 20 } : Room) (va_Pc [.ref this, va_rf (x1), .int (x2)] (zk_pre D g b0 P)) (va_Qv post (zk_B D b0) (zk_A b0)) 0 0 (zk_A b0) := by
  refine zk_enter "LandFolio$ByRank" "<init>" rfl rfl (plainFor_of_name (by decide)) [.ref this, va_rf (x1), .int (x2)] (by cases x1 <;> exact Nat.le_of_ble_eq_true rfl) ?_
  intro p e s m args below meth c X
  refine zk_at0 (L' := [(0, va_rf (some this)), (1, va_rf (x1)), (2, .int (x2))]) (by cases x1 <;> rfl) ?_
  have h := hh
  unfold wp_X12_init at h
  refine zv_aload_n X 0 dX12_init_0 rfl ?_
  refine zv_objInit X q1633 dX12_init_1 (by decide) (by decide) (by decide) ?_
  refine zv_aload_n X 0 dX12_init_4 rfl ?_
  refine zv_aload_n X 1 dX12_init_5 rfl ?_
  refine zv_put_r X fp_q1634 (zk_tyO _) (fun _ => rfl) dX12_init_6 h (fun P6 h => ?_)
  refine zv_aload_n X 0 dX12_init_9 rfl ?_
  refine zv_iload_n X 2 dX12_init_10 rfl ?_
  refine zv_put_i X fp_q1635 (fun _ => rfl) dX12_init_11 h (fun P11 h => ?_)
  exact zv_vret X rfl (by first | exact Nat.le_of_ble_eq_true rfl | omega | (dsimp only; omega)) (by first | exact Nat.le_of_ble_eq_true rfl | omega | (dsimp only; omega)) dX12_init_14 h
theorem kj_X12_behind_83 {p : Program} {l : Launch} {e : Env} {s : State} {m : MethodId} {args : Array Value} {below : List Frame} {meth : Method} {c : Code} {D : zk_G} {g : zk_M} {b0 : Nat} (X : zk_X p s m args meth c D g b0 cX12_behind 6 "LandFolio$ByRank" "behind" (some (Jvm.ClassFile.FieldType.object "LandFolio$Burden"))) {post : Option Nat → Prop} {K4 : Option Nat → Int32 → Prop} {a0 : Option Nat} {a1 : Int32} {a3 : Int32} {s0 : Option Nat} {P : zk_H}  (hK4 : ∀ (u2 : Option Nat) (u3 : Int32), K4 u2 u3 → zV p l e ({ frames := 4, cells := 0, slots := 0, locals := 85 } : Room) s m args below meth c D b0 6 (0) (0) (MQ below (va_Qq (fun r u => post r ∧ u = P) (zk_B D b0) (zk_A b0)) args s 0 0 (zk_A b0)) P 4 [(0, va_rf (a0)), (1, .int (a1)), (2, va_rf (u2)), (3, .int (u3))] [])  (hh : wj_X12_behind_83 post K4 a0 a1 a3 s0 P) : zV p l e ({ frames := 4, cells := 0, slots := 0, locals := 85 } : Room) s m args below meth c D b0 6 (0) (0) (MQ below (va_Qq (fun r u => post r ∧ u = P) (zk_B D b0) (zk_A b0)) args s 0 0 (zk_A b0)) P 83 [(0, va_rf (a0)), (1, .int (a1)), (3, .int (a3))] [va_rf (s0)] := by
  have h := hh
  unfold wj_X12_behind_83 at h
  refine zv_astore_n X (i := 2) (L' := [(2, va_rf (s0)), (0, va_rf (a0)), (1, .int (a1)), (3, .int (a3))]) dX12_behind_83 rfl (by decide) rfl ?_
  obtain ⟨v84, e84, h⟩ := zt_e h
  refine zv_iinc X (v := v84) (L' := [(3, .int (v84)), (2, va_rf (s0)), (0, va_rf (a0)), (1, .int (a1))]) 3 dX12_behind_84 rfl e84 (by decide) (by simp [zk_s1, zk_rc, zk_ic, zk_jc]) ?_
  refine zv_goto X (tgt := 4) dX12_behind_87 (by decide) ?_
  refine zv_sub (L' := [(0, va_rf (a0)), (1, .int (a1)), (2, va_rf (s0)), (3, .int (v84))]) [2, 3, 1, 0] rfl ?_
  exact hK4 _ _ h
theorem kj_X12_behind_82 {p : Program} {l : Launch} {e : Env} {s : State} {m : MethodId} {args : Array Value} {below : List Frame} {meth : Method} {c : Code} {D : zk_G} {g : zk_M} {b0 : Nat} (X : zk_X p s m args meth c D g b0 cX12_behind 6 "LandFolio$ByRank" "behind" (some (Jvm.ClassFile.FieldType.object "LandFolio$Burden"))) {post : Option Nat → Prop} {K4 : Option Nat → Int32 → Prop} {a0 : Option Nat} {a1 : Int32} {a2 : Option Nat} {a3 : Int32} {P : zk_H}  (hK4 : ∀ (u2 : Option Nat) (u3 : Int32), K4 u2 u3 → zV p l e ({ frames := 4, cells := 0, slots := 0, locals := 85 } : Room) s m args below meth c D b0 6 (0) (0) (MQ below (va_Qq (fun r u => post r ∧ u = P) (zk_B D b0) (zk_A b0)) args s 0 0 (zk_A b0)) P 4 [(0, va_rf (a0)), (1, .int (a1)), (2, va_rf (u2)), (3, .int (u3))] [])  (hh : wj_X12_behind_82 post K4 a0 a1 a2 a3 P) : zV p l e ({ frames := 4, cells := 0, slots := 0, locals := 85 } : Room) s m args below meth c D b0 6 (0) (0) (MQ below (va_Qq (fun r u => post r ∧ u = P) (zk_B D b0) (zk_A b0)) args s 0 0 (zk_A b0)) P 82 [(0, va_rf (a0)), (1, .int (a1)), (2, va_rf (a2)), (3, .int (a3))] [] := by
  have h := hh
  unfold wj_X12_behind_82 at h
  refine zv_aload_n X 2 dX12_behind_82 rfl ?_
  refine zv_sub (L' := [(0, va_rf (a0)), (1, .int (a1)), (3, .int (a3))]) [0, 1, 3] rfl ?_
  exact kj_X12_behind_83 X hK4 h
theorem kj_X12_behind_77 {p : Program} {l : Launch} {e : Env} {s : State} {m : MethodId} {args : Array Value} {below : List Frame} {meth : Method} {c : Code} {D : zk_G} {g : zk_M} {b0 : Nat} (X : zk_X p s m args meth c D g b0 cX12_behind 6 "LandFolio$ByRank" "behind" (some (Jvm.ClassFile.FieldType.object "LandFolio$Burden"))) {post : Option Nat → Prop} {K4 : Option Nat → Int32 → Prop} {a0 : Option Nat} {a1 : Int32} {a3 : Int32} {a4 : Option Nat} {P : zk_H}  (hK4 : ∀ (u2 : Option Nat) (u3 : Int32), K4 u2 u3 → zV p l e ({ frames := 4, cells := 0, slots := 0, locals := 85 } : Room) s m args below meth c D b0 6 (0) (0) (MQ below (va_Qq (fun r u => post r ∧ u = P) (zk_B D b0) (zk_A b0)) args s 0 0 (zk_A b0)) P 4 [(0, va_rf (a0)), (1, .int (a1)), (2, va_rf (u2)), (3, .int (u3))] [])  (hh : wj_X12_behind_77 post K4 a0 a1 a3 a4 P) : zV p l e ({ frames := 4, cells := 0, slots := 0, locals := 85 } : Room) s m args below meth c D b0 6 (0) (0) (MQ below (va_Qq (fun r u => post r ∧ u = P) (zk_B D b0) (zk_A b0)) args s 0 0 (zk_A b0)) P 77 [(0, va_rf (a0)), (1, .int (a1)), (3, .int (a3)), (4, va_rf (a4))] [] := by
  have h := hh
  unfold wj_X12_behind_77 at h
  refine zv_aload X 3 dX12_behind_77 rfl ?_
  refine zv_goto X (tgt := 83) dX12_behind_79 (by decide) ?_
  refine zv_sub (L' := [(0, va_rf (a0)), (1, .int (a1)), (3, .int (a3))]) [0, 1, 2] rfl ?_
  exact kj_X12_behind_83 X hK4 h
theorem kj_X12_behind_54 {p : Program} {l : Launch} {e : Env} {s : State} {m : MethodId} {args : Array Value} {below : List Frame} {meth : Method} {c : Code} {D : zk_G} {g : zk_M} {b0 : Nat} (X : zk_X p s m args meth c D g b0 cX12_behind 6 "LandFolio$ByRank" "behind" (some (Jvm.ClassFile.FieldType.object "LandFolio$Burden"))) {post : Option Nat → Prop} {K4 : Option Nat → Int32 → Prop} {a0 : Option Nat} {a1 : Int32} {a2 : Option Nat} {a3 : Int32} {a4 : Option Nat} {s0 : Int32} {P : zk_H}  (hK4 : ∀ (u2 : Option Nat) (u3 : Int32), K4 u2 u3 → zV p l e ({ frames := 4, cells := 0, slots := 0, locals := 85 } : Room) s m args below meth c D b0 6 (0) (0) (MQ below (va_Qq (fun r u => post r ∧ u = P) (zk_B D b0) (zk_A b0)) args s 0 0 (zk_A b0)) P 4 [(0, va_rf (a0)), (1, .int (a1)), (2, va_rf (u2)), (3, .int (u3))] [])  (hh : wj_X12_behind_54 post K4 a0 a1 a2 a3 a4 s0 P) : zV p l e ({ frames := 4, cells := 0, slots := 0, locals := 85 } : Room) s m args below meth c D b0 6 (0) (0) (MQ below (va_Qq (fun r u => post r ∧ u = P) (zk_B D b0) (zk_A b0)) args s 0 0 (zk_A b0)) P 54 [(0, va_rf (a0)), (1, .int (a1)), (2, va_rf (a2)), (3, .int (a3)), (4, va_rf (a4))] [.int (s0)] := by
  have h := hh
  unfold wj_X12_behind_54 at h
  refine zv_istore X (L' := [(5, .int (s0)), (0, va_rf (a0)), (1, .int (a1)), (2, va_rf (a2)), (3, .int (a3)), (4, va_rf (a4))]) dX12_behind_54 (by decide) (by simp [zk_s1, zk_s2, zk_rc, zk_ic, zk_jc]) ?_
  refine zv_iload X 0 dX12_behind_56 rfl ?_
  refine zv_if_eq X (tgt := 82) dX12_behind_58 (by decide) h (fun h => ?_) (fun h => ?_)
  · refine zv_sub (L' := [(0, va_rf (a0)), (1, .int (a1)), (2, va_rf (a2)), (3, .int (a3))]) [1, 2, 3, 4] rfl ?_
    exact kj_X12_behind_82 X hK4 h
  · refine zv_aload_n X 3 dX12_behind_61 rfl ?_
    refine zv_ifnull X (tgt := 77) dX12_behind_62 (by decide) h (fun h => ?_) (fun h => ?_)
    · refine zv_sub (L' := [(0, va_rf (a0)), (1, .int (a1)), (3, .int (a3)), (4, va_rf (a4))]) [1, 2, 4, 5] rfl ?_
      exact kj_X12_behind_77 X hK4 h
    · refine zv_aload X 5 dX12_behind_65 rfl ?_
      refine zv_getf_i X fo_q595 dX12_behind_67 h (fun v67 h => ?_)
      refine zv_aload_n X 3 dX12_behind_70 rfl ?_
      refine zv_getf_i X fo_q595 dX12_behind_71 h (fun v71 h => ?_)
      refine zv_icmp_ge X (tgt := 82) dX12_behind_74 (by decide) h (fun h => ?_) (fun h => ?_)
      · refine zv_sub (L' := [(0, va_rf (a0)), (1, .int (a1)), (2, va_rf (a2)), (3, .int (a3))]) [1, 2, 3, 4] rfl ?_
        exact kj_X12_behind_82 X hK4 h
      · refine zv_sub (L' := [(0, va_rf (a0)), (1, .int (a1)), (3, .int (a3)), (4, va_rf (a4))]) [1, 2, 4, 5] rfl ?_
        exact kj_X12_behind_77 X hK4 h
theorem kj_X12_behind_53 {p : Program} {l : Launch} {e : Env} {s : State} {m : MethodId} {args : Array Value} {below : List Frame} {meth : Method} {c : Code} {D : zk_G} {g : zk_M} {b0 : Nat} (X : zk_X p s m args meth c D g b0 cX12_behind 6 "LandFolio$ByRank" "behind" (some (Jvm.ClassFile.FieldType.object "LandFolio$Burden"))) {post : Option Nat → Prop} {K4 : Option Nat → Int32 → Prop} {a0 : Option Nat} {a1 : Int32} {a2 : Option Nat} {a3 : Int32} {a4 : Option Nat} {P : zk_H}  (hK4 : ∀ (u2 : Option Nat) (u3 : Int32), K4 u2 u3 → zV p l e ({ frames := 4, cells := 0, slots := 0, locals := 85 } : Room) s m args below meth c D b0 6 (0) (0) (MQ below (va_Qq (fun r u => post r ∧ u = P) (zk_B D b0) (zk_A b0)) args s 0 0 (zk_A b0)) P 4 [(0, va_rf (a0)), (1, .int (a1)), (2, va_rf (u2)), (3, .int (u3))] [])  (hh : wj_X12_behind_53 post K4 a0 a1 a2 a3 a4 P) : zV p l e ({ frames := 4, cells := 0, slots := 0, locals := 85 } : Room) s m args below meth c D b0 6 (0) (0) (MQ below (va_Qq (fun r u => post r ∧ u = P) (zk_B D b0) (zk_A b0)) args s 0 0 (zk_A b0)) P 53 [(0, va_rf (a0)), (1, .int (a1)), (2, va_rf (a2)), (3, .int (a3)), (4, va_rf (a4))] [] := by
  have h := hh
  unfold wj_X12_behind_53 at h
  refine zv_iconst X (v := 0) dX12_behind_53 rfl ?_
  exact kj_X12_behind_54 X hK4 h
theorem kb_X12_behind_4 {p : Program} {l : Launch} {e : Env} {s : State} {m : MethodId} {args : Array Value} {below : List Frame} {meth : Method} {c : Code} {D : zk_G} {g : zk_M} {b0 : Nat} (X : zk_X p s m args meth c D g b0 cX12_behind 6 "LandFolio$ByRank" "behind" (some (Jvm.ClassFile.FieldType.object "LandFolio$Burden"))) {post : Option Nat → Prop}  {K4 : Option Nat → Int32 → Prop} {a0 : Option Nat} {a1 : Int32} {a2 : Option Nat} {a3 : Int32} {P : zk_H}   (hK4 : ∀ (u2 : Option Nat) (u3 : Int32), K4 u2 u3 → zV p l e ({ frames := 4, cells := 0, slots := 0, locals := 85 } : Room) s m args below meth c D b0 6 (0) (0) (MQ below (va_Qq (fun r u => post r ∧ u = P) (zk_B D b0) (zk_A b0)) args s 0 0 (zk_A b0)) P 4 [(0, va_rf (a0)), (1, .int (a1)), (2, va_rf (u2)), (3, .int (u3))] [])  (hh : wb_X12_behind_4 post a0 a1 P K4 a2 a3) : zV p l e ({ frames := 4, cells := 0, slots := 0, locals := 85 } : Room) s m args below meth c D b0 6 (0) (0) (MQ below (va_Qq (fun r u => post r ∧ u = P) (zk_B D b0) (zk_A b0)) args s 0 0 (zk_A b0)) P 4 [(0, va_rf (a0)), (1, .int (a1)), (2, va_rf (a2)), (3, .int (a3))] [] := by
  have h := hh
  unfold wb_X12_behind_4 at h
  refine zv_iload_n X 3 dX12_behind_4 rfl ?_
  refine zv_aload_n X 0 dX12_behind_5 rfl ?_
  refine zv_getf_r X fo_q1634 dX12_behind_6 h (fun v6 h => ?_)
  refine zv_getf_r X fo_q200 dX12_behind_9 h (fun v9 h => ?_)
  refine zv_ciR ((zr_Vl X (As := []) (rest := [.int (a3)]) h (fun a h => wk_J2_size l h) (zk_l1 ⟨_, rfl, cwV 0 X.hts (lw_V q1655 q362 q363 q106 q364) rfl rfl rfl ⟨rfl, md_J2_size⟩ ⟨Nat.le_of_ble_eq_true rfl, Nat.le_of_ble_eq_true rfl⟩⟩) rfl rfl (zk_rs (Nat.le_of_ble_eq_true rfl)) dX12_behind_12 ⟨by first | exact Nat.le_of_ble_eq_true rfl | omega | (dsimp only; omega), by first | exact Nat.le_of_ble_eq_true rfl | omega | (dsimp only; omega)⟩)) (fun v12 h => ?_)
  refine zv_icmp_ge X (tgt := 90) dX12_behind_15 (by decide) h (fun h => ?_) (fun h => ?_)
  · refine zv_aload_n X 2 dX12_behind_90 rfl ?_
    exact zv_aret X rfl (Or.inl ⟨_, rfl⟩) (by first | exact Nat.le_of_ble_eq_true rfl | omega | (dsimp only; omega)) (by first | exact Nat.le_of_ble_eq_true rfl | omega | (dsimp only; omega)) dX12_behind_91 ⟨h, rfl⟩
  · refine zv_aload_n X 0 dX12_behind_18 rfl ?_
    refine zv_getf_r X fo_q1634 dX12_behind_19 h (fun v19 h => ?_)
    refine zv_iload_n X 3 dX12_behind_22 rfl ?_
    refine zv_cqR ((zr_Vl X (As := [.int (a3)]) (rest := []) h (fun a h => wk_X1_burden l h) (zk_l1 ⟨_, rfl, cwV 1 X.hts (lw_V q1656 q526 q527 q103 q528) rfl rfl rfl ⟨rfl, md_X1_burden⟩ ⟨Nat.le_of_ble_eq_true rfl, Nat.le_of_ble_eq_true rfl⟩⟩) rfl rfl (zk_rs (Nat.le_of_ble_eq_true rfl)) dX12_behind_23 ⟨by first | exact Nat.le_of_ble_eq_true rfl | omega | (dsimp only; omega), by first | exact Nat.le_of_ble_eq_true rfl | omega | (dsimp only; omega)⟩)) (fun v23 h => ?_)
    refine zv_astore X (L' := [(4, va_rf (v23)), (0, va_rf (a0)), (1, .int (a1)), (2, va_rf (a2)), (3, .int (a3))]) dX12_behind_26 (by decide) rfl ?_
    refine zv_aload X 0 dX12_behind_28 rfl ?_
    refine zv_aload_n X 1 dX12_behind_30 rfl ?_
    refine zv_getf_i X fo_q1635 dX12_behind_31 h (fun v31 h => ?_)
    refine zv_ciR ((zr_Ul X (As := [.int (v31)]) (rest := []) h (fun a h => wk_X7_isOn l h) (zk_l2 ⟨_, rfl, _, va_cwU 1 X.hts (zk_wsU q1657 q1208 q1209 q1207 q127 q1211) rfl rfl rfl rfl md_X7_isOn ⟨Nat.le_of_ble_eq_true rfl, Nat.le_of_ble_eq_true rfl⟩⟩ ⟨_, rfl, _, va_cwU 1 X.hts (zk_wsU q1657 q1208 q1210 q1207 q127 q1211) rfl rfl rfl rfl md_X7_isOn ⟨Nat.le_of_ble_eq_true rfl, Nat.le_of_ble_eq_true rfl⟩⟩) rfl rfl (zk_rs (Nat.le_of_ble_eq_true rfl)) dX12_behind_34 ⟨by first | exact Nat.le_of_ble_eq_true rfl | omega | (dsimp only; omega), by first | exact Nat.le_of_ble_eq_true rfl | omega | (dsimp only; omega)⟩)) (fun v34 h => ?_)
    refine zv_if_eq X (tgt := 53) dX12_behind_37 (by decide) h (fun h => ?_) (fun h => ?_)
    · refine zv_sub (L' := [(0, va_rf (a0)), (1, .int (a1)), (2, va_rf (a2)), (3, .int (a3)), (4, va_rf (v23))]) [1, 2, 3, 4, 0] rfl ?_
      exact kj_X12_behind_53 X hK4 h
    · refine zv_aload X 0 dX12_behind_40 rfl ?_
      refine zv_getf_i X fo_q595 dX12_behind_42 h (fun v42 h => ?_)
      refine zv_iload_n X 2 dX12_behind_45 rfl ?_
      refine zv_icmp_le X (tgt := 53) dX12_behind_46 (by decide) h (fun h => ?_) (fun h => ?_)
      · refine zv_sub (L' := [(0, va_rf (a0)), (1, .int (a1)), (2, va_rf (a2)), (3, .int (a3)), (4, va_rf (v23))]) [1, 2, 3, 4, 0] rfl ?_
        exact kj_X12_behind_53 X hK4 h
      · refine zv_iconst X (v := 1) dX12_behind_49 rfl ?_
        refine zv_goto X (tgt := 54) dX12_behind_50 (by decide) ?_
        refine zv_sub (L' := [(0, va_rf (a0)), (1, .int (a1)), (2, va_rf (a2)), (3, .int (a3)), (4, va_rf (v23))]) [1, 2, 3, 4, 0] rfl ?_
        exact kj_X12_behind_54 X hK4 h
theorem kl_X12_behind_4 {p : Program} {l : Launch} {e : Env} {s : State} {m : MethodId} {args : Array Value} {below : List Frame} {meth : Method} {c : Code} {D : zk_G} {g : zk_M} {b0 : Nat} (X : zk_X p s m args meth c D g b0 cX12_behind 6 "LandFolio$ByRank" "behind" (some (Jvm.ClassFile.FieldType.object "LandFolio$Burden"))) {post : Option Nat → Prop}  {a0 : Option Nat} {a1 : Int32} {P : zk_H}   : ∀ (n : Nat) (a2 : Option Nat) (a3 : Int32), wl_X12_behind_4 post a0 a1 P n a2 a3 → zV p l e ({ frames := 4, cells := 0, slots := 0, locals := 85 } : Room) s m args below meth c D b0 6 (0) (0) (MQ below (va_Qq (fun r u => post r ∧ u = P) (zk_B D b0) (zk_A b0)) args s 0 0 (zk_A b0)) P 4 [(0, va_rf (a0)), (1, .int (a1)), (2, va_rf (a2)), (3, .int (a3))] [] := by
  intro n
  induction n with
  | zero => intro _ _ h; exact h.elim
  | succ n ih =>
    intro a2 a3 h
    exact kb_X12_behind_4 X  (fun u0 u1 h => ih _ _ h)  h
theorem md_X12_behind : yX12_behind.cls ≠ "java/lang/invoke/MethodHandle" ∧ yX12_behind.cls ≠ "java/lang/invoke/VarHandle" ∧ (parseMethodDescriptor yX12_behind.desc).map (fun d => d.parameters.length) = some 1 := by decide +kernel
theorem wk_X12_behind (l : Launch) {D : zk_G} {g : zk_M} {b0 : Nat} {post : Option Nat → Prop} {this : Nat} {x1 : Int32} {P : zk_H} (hh : wp_X12_behind post this x1 P) : Met l yX12_behind (ws_ yX12_behind cX12_behind 6 (some (Jvm.ClassFile.FieldType.object "LandFolio$Burden"))) ({ frames := 4, cells := 0, slots := 0, locals := 85 } : Room) (va_Pc [.ref this, .int (x1)] (zk_pre D g b0 P)) (va_Qq (fun r u => post r ∧ u = P) (zk_B D b0) (zk_A b0)) 0 0 (zk_A b0) := by
  refine zk_enter "LandFolio$ByRank" "behind" rfl rfl (plainFor_of_name (by decide)) [.ref this, .int (x1)] (Nat.le_of_ble_eq_true rfl) ?_
  intro p e s m args below meth c X
  refine zk_at0 (L' := [(0, va_rf (some this)), (1, .int (x1))]) (rfl) ?_
  have h := hh
  unfold wp_X12_behind at h
  refine zv_null X dX12_behind_0 ?_
  refine zv_astore_n X (i := 2) (L' := [(2, va_rf (none)), (0, va_rf (some this)), (1, .int (x1))]) dX12_behind_1 rfl (by decide) rfl ?_
  refine zv_iconst X (v := 0) dX12_behind_2 rfl ?_
  refine zv_istore_n X (i := 3) (L' := [(3, .int (0)), (2, va_rf (none)), (0, va_rf (some this)), (1, .int (x1))]) dX12_behind_3 rfl (by decide) rfl ?_
  refine zv_sub (L' := [(0, va_rf (some this)), (1, .int (x1)), (2, va_rf (none)), (3, .int (0))]) [2, 3, 1, 0] rfl ?_
  obtain ⟨n3, h⟩ := h
  exact kl_X12_behind_4 X  n3 _ _ h
theorem md_X13_init : yX13_init.cls ≠ "java/lang/invoke/MethodHandle" ∧ yX13_init.cls ≠ "java/lang/invoke/VarHandle" ∧ (parseMethodDescriptor yX13_init.desc).map (fun d => d.parameters.length) = some 1 := by decide +kernel
theorem wk_X13_init (l : Launch) {D : zk_G} {g : zk_M} {b0 : Nat} {post : zk_H → Prop} {this : Nat} {x1 : Option Nat} {P : zk_H} (hh : wp_X13_init post this x1 P) : Met l yX13_init (ws_ yX13_init cX13_init 2 none) ({ frames := 5, cells := 0, slots := 0, locals := 110 } : Room) (va_Pc [.ref this, va_rf (x1)] (zk_pre D g b0 P)) (va_Qv post (zk_B D b0) (zk_A b0)) 0 0 (zk_A b0) := by
  refine zk_enter "LandFolio$ByRank$1" "<init>" rfl rfl (plainFor_of_name (by decide)) [.ref this, va_rf (x1)] (by cases x1 <;> exact Nat.le_of_ble_eq_true rfl) ?_
  intro p e s m args below meth c X
  refine zk_at0 (L' := [(0, va_rf (some this)), (1, va_rf (x1))]) (by cases x1 <;> rfl) ?_
  have h := hh
  unfold wp_X13_init at h
  refine zv_aload_n X 0 dX13_init_0 rfl ?_
  refine zv_aload_n X 1 dX13_init_1 rfl ?_
  refine zv_put_r X fp_q1659 (zk_tyO _) (fun _ => rfl) dX13_init_2 h (fun P2 h => ?_)
  refine zv_aload_n X 0 dX13_init_5 rfl ?_
  refine zv_objInit X q1650 dX13_init_6 (by decide) (by decide) (by decide) ?_
  refine zv_aload_n X 0 dX13_init_9 rfl ?_
  refine zv_aload_n X 0 dX13_init_10 rfl ?_
  refine zv_getf_r X fo_q1659 dX13_init_11 h (fun v11 h => ?_)
  refine zv_iconst X (v := -1) dX13_init_14 rfl ?_
  refine zv_cqR ((zr_VNl X (As := [.int (-1)]) (rest := [va_rf (some this)]) h (fun a h => wk_X12_behind l h) (zk_l1 ⟨_, rfl, zk_cwN X 1 q1651 (lw_meth q1654) q136 md_X12_behind ⟨Nat.le_of_ble_eq_true rfl, Nat.le_of_ble_eq_true rfl⟩, q1653, qs44⟩) rfl rfl (zk_rs (Nat.le_of_ble_eq_true rfl)) dX13_init_15 ⟨by first | exact Nat.le_of_ble_eq_true rfl | omega | (dsimp only; omega), by first | exact Nat.le_of_ble_eq_true rfl | omega | (dsimp only; omega)⟩)) (fun v15 h => ?_)
  refine zv_put_r X fp_q1658 (zk_tyO _) (fun z => by cases z) dX13_init_18 h (fun P18 h => ?_)
  exact zv_vret X rfl (by first | exact Nat.le_of_ble_eq_true rfl | omega | (dsimp only; omega)) (by first | exact Nat.le_of_ble_eq_true rfl | omega | (dsimp only; omega)) dX13_init_21 h
theorem md_X12_iterator : yX12_iterator.cls ≠ "java/lang/invoke/MethodHandle" ∧ yX12_iterator.cls ≠ "java/lang/invoke/VarHandle" ∧ (parseMethodDescriptor yX12_iterator.desc).map (fun d => d.parameters.length) = some 0 := by decide +kernel
theorem wk_X12_iterator (l : Launch) {D : zk_G} {g : zk_M} {b0 : Nat} {post : Option Nat → zk_H → Prop} {this : Nat} {P : zk_H} (hh : wp_X12_iterator post this P) : Met l yX12_iterator (ws_ yX12_iterator cX12_iterator 1 (some (Jvm.ClassFile.FieldType.object "java/util/Iterator"))) ({ frames := 6, cells := 1, slots := 2, locals := 131 } : Room) (va_Pc [.ref this] (zk_pre D g b0 P)) (va_Qq post (zk_B D b0) (zk_A b0)) 1 2 (zk_A b0) := by
  refine zk_enter "LandFolio$ByRank" "iterator" rfl rfl (plainFor_of_name (by decide)) [.ref this] (Nat.le_of_ble_eq_true rfl) ?_
  intro p e s m args below meth c X
  refine zk_at0 (L' := [(0, va_rf (some this))]) (rfl) ?_
  have h := hh
  unfold wp_X12_iterator at h
  refine zv_new X zk_nc11 q1645 (by first | exact Nat.le_of_ble_eq_true rfl | omega | (dsimp only; omega)) (by first | exact Nat.le_of_ble_eq_true rfl | omega | (dsimp only; omega)) dX12_iterator_0 h (fun v0 P0 h => ?_)
  refine zv_dup X dX12_iterator_3 (zk_rc _) ?_
  refine zv_aload_n X 0 dX12_iterator_4 rfl ?_
  refine zv_cv ((zr_I X (As := [va_rf (some this)]) (rest := [va_rf (some v0)]) (wk_X13_init l h) (cwI 1 X.hts (lw_meth q1649) rfl rfl rfl (X.w q137) (X.w q1647) (X.w q1648) rfl md_X13_init ⟨Nat.le_of_ble_eq_true rfl, Nat.le_of_ble_eq_true rfl⟩) rfl rfl (zk_rs (Nat.le_of_ble_eq_true rfl)) dX12_iterator_5 ⟨by first | exact Nat.le_of_ble_eq_true rfl | omega | (dsimp only; omega), by first | exact Nat.le_of_ble_eq_true rfl | omega | (dsimp only; omega)⟩)) (fun P5 h => ?_)
  exact zv_aret X rfl (Or.inl ⟨_, rfl⟩) (by first | exact Nat.le_of_ble_eq_true rfl | omega | (dsimp only; omega)) (by first | exact Nat.le_of_ble_eq_true rfl | omega | (dsimp only; omega)) dX12_iterator_8 h
theorem md_X13_hasNext : yX13_hasNext.cls ≠ "java/lang/invoke/MethodHandle" ∧ yX13_hasNext.cls ≠ "java/lang/invoke/VarHandle" ∧ (parseMethodDescriptor yX13_hasNext.desc).map (fun d => d.parameters.length) = some 0 := by decide +kernel
theorem wk_X13_hasNext (l : Launch) {D : zk_G} {g : zk_M} {b0 : Nat} {post : Int32 → Prop} {this : Nat} {P : zk_H} (hh : wp_X13_hasNext post this P) : Met l yX13_hasNext (ws_ yX13_hasNext cX13_hasNext 1 (some Jvm.ClassFile.FieldType.boolean)) ({ frames := 0, cells := 0, slots := 0, locals := 0 } : Room) (va_Pc [.ref this] (zk_pre D g b0 P)) (va_Qi (fun r u => post r ∧ u = P) (zk_B D b0) (zk_A b0)) 0 0 (zk_A b0) := by
  refine zk_enter "LandFolio$ByRank$1" "hasNext" rfl rfl (plainFor_of_name (by decide)) [.ref this] (Nat.le_of_ble_eq_true rfl) ?_
  intro p e s m args below meth c X
  refine zk_at0 (L' := [(0, va_rf (some this))]) (rfl) ?_
  have h := hh
  unfold wp_X13_hasNext at h
  refine zv_aload_n X 0 dX13_hasNext_0 rfl ?_
  refine zv_getf_r X fo_q1658 dX13_hasNext_1 h (fun v1 h => ?_)
  refine zv_ifnull X (tgt := 11) dX13_hasNext_4 (by decide) h (fun h => ?_) (fun h => ?_)
  · refine zv_iconst X (v := 0) dX13_hasNext_11 rfl ?_
    exact zv_zret X (ty := .boolean) rfl (by first | exact Nat.le_of_ble_eq_true rfl | omega | (dsimp only; omega)) (by first | exact Nat.le_of_ble_eq_true rfl | omega | (dsimp only; omega)) dX13_hasNext_12 ⟨rfl, ⟨h, rfl⟩⟩
  · refine zv_iconst X (v := 1) dX13_hasNext_7 rfl ?_
    refine zv_goto X (tgt := 12) dX13_hasNext_8 (by decide) ?_
    exact zv_zret X (ty := .boolean) rfl (by first | exact Nat.le_of_ble_eq_true rfl | omega | (dsimp only; omega)) (by first | exact Nat.le_of_ble_eq_true rfl | omega | (dsimp only; omega)) dX13_hasNext_12 ⟨rfl, ⟨h, rfl⟩⟩
theorem md_X13_next_2 : yX13_next_2.cls ≠ "java/lang/invoke/MethodHandle" ∧ yX13_next_2.cls ≠ "java/lang/invoke/VarHandle" ∧ (parseMethodDescriptor yX13_next_2.desc).map (fun d => d.parameters.length) = some 0 := by decide +kernel
theorem wk_X13_next_2 (l : Launch) {D : zk_G} {g : zk_M} {b0 : Nat} {post : Option Nat → zk_H → Prop} {this : Nat} {P : zk_H} (hh : wp_X13_next_2 post this P) : Met l yX13_next_2 (ws_ yX13_next_2 cX13_next_2 2 (some (Jvm.ClassFile.FieldType.object "LandFolio$Burden"))) ({ frames := 5, cells := 0, slots := 0, locals := 110 } : Room) (va_Pc [.ref this] (zk_pre D g b0 P)) (va_Qq post (zk_B D b0) (zk_A b0)) 0 0 (zk_A b0) := by
  refine zk_enter "LandFolio$ByRank$1" "next" rfl rfl (plainFor_of_name (by decide)) [.ref this] (Nat.le_of_ble_eq_true rfl) ?_
  intro p e s m args below meth c X
  refine zk_at0 (L' := [(0, va_rf (some this))]) (rfl) ?_
  have h := hh
  unfold wp_X13_next_2 at h
  refine zv_aload_n X 0 dX13_next_2_0 rfl ?_
  refine zv_getf_r X fo_q1658 dX13_next_2_1 h (fun v1 h => ?_)
  refine zv_ifnonnull X (tgt := 15) dX13_next_2_4 (by decide) h (fun h => ?_) (fun h => ?_)
  · refine zv_aload_n X 0 dX13_next_2_15 rfl ?_
    refine zv_getf_r X fo_q1658 dX13_next_2_16 h (fun v16 h => ?_)
    refine zv_astore_n X (i := 1) (L' := [(1, va_rf (v16)), (0, va_rf (some this))]) dX13_next_2_19 rfl (by decide) rfl ?_
    refine zv_aload_n X 1 dX13_next_2_20 rfl ?_
    refine zv_aload_n X 1 dX13_next_2_21 rfl ?_
    refine zv_getf_r X fo_q1659 dX13_next_2_22 h (fun v22 h => ?_)
    refine zv_aload_n X 0 dX13_next_2_25 rfl ?_
    refine zv_getf_i X fo_q596 dX13_next_2_26 h (fun v26 h => ?_)
    refine zv_cqR ((zr_VNl X (As := [.int (v26)]) (rest := [va_rf (some this)]) h (fun a h => wk_X12_behind l h) (zk_l1 ⟨_, rfl, zk_cwN X 1 q1651 (lw_meth q1654) q136 md_X12_behind ⟨Nat.le_of_ble_eq_true rfl, Nat.le_of_ble_eq_true rfl⟩, q1653, qs44⟩) rfl rfl (zk_rs (Nat.le_of_ble_eq_true rfl)) dX13_next_2_29 ⟨by first | exact Nat.le_of_ble_eq_true rfl | omega | (dsimp only; omega), by first | exact Nat.le_of_ble_eq_true rfl | omega | (dsimp only; omega)⟩)) (fun v29 h => ?_)
    refine zv_put_r X fp_q1658 (zk_tyO _) (fun z => by cases z) dX13_next_2_32 h (fun P32 h => ?_)
    refine zv_aload_n X 0 dX13_next_2_35 rfl ?_
    exact zv_aret X rfl (Or.inl ⟨_, rfl⟩) (by first | exact Nat.le_of_ble_eq_true rfl | omega | (dsimp only; omega)) (by first | exact Nat.le_of_ble_eq_true rfl | omega | (dsimp only; omega)) dX13_next_2_36 h
  · exact h.elim
theorem md_X13_next : yX13_next.cls ≠ "java/lang/invoke/MethodHandle" ∧ yX13_next.cls ≠ "java/lang/invoke/VarHandle" ∧ (parseMethodDescriptor yX13_next.desc).map (fun d => d.parameters.length) = some 0 := by decide +kernel
theorem wk_X13_next (l : Launch) {D : zk_G} {g : zk_M} {b0 : Nat} {post : Option Nat → zk_H → Prop} {this : Nat} {P : zk_H} (hh : wp_X13_next post this P) : Met l yX13_next (ws_ yX13_next cX13_next 1 (some (Jvm.ClassFile.FieldType.object "java/lang/Object"))) ({ frames := 6, cells := 0, slots := 0, locals := 131 } : Room) (va_Pc [.ref this] (zk_pre D g b0 P)) (va_Qq post (zk_B D b0) (zk_A b0)) 0 0 (zk_A b0) := by
  refine zk_enter "LandFolio$ByRank$1" "next" rfl rfl (plainFor_of_name (by decide)) [.ref this] (Nat.le_of_ble_eq_true rfl) ?_
  intro p e s m args below meth c X
  refine zk_at0 (L' := [(0, va_rf (some this))]) (rfl) ?_
  have h := hh
  unfold wp_X13_next at h
  refine zv_aload_n X 0 dX13_next_0 rfl ?_
  refine zv_cq ((zr_Vl X (As := []) (rest := []) h (fun a h => wk_X13_next_2 l h) (zk_l1 ⟨_, rfl, cwV 0 X.hts (lw_V q1684 q1685 q1686 q137 q1687) rfl rfl rfl ⟨rfl, md_X13_next_2⟩ ⟨Nat.le_of_ble_eq_true rfl, Nat.le_of_ble_eq_true rfl⟩⟩) rfl rfl (zk_rs (Nat.le_of_ble_eq_true rfl)) dX13_next_1 ⟨by first | exact Nat.le_of_ble_eq_true rfl | omega | (dsimp only; omega), by first | exact Nat.le_of_ble_eq_true rfl | omega | (dsimp only; omega)⟩)) (fun v1 P1 h => ?_)
  exact zv_aret X rfl (Or.inl ⟨_, rfl⟩) (by first | exact Nat.le_of_ble_eq_true rfl | omega | (dsimp only; omega)) (by first | exact Nat.le_of_ble_eq_true rfl | omega | (dsimp only; omega)) dX13_next_4 h
theorem kj_X0_burdensOn_53 {p : Program} {l : Launch} {e : Env} {s : State} {m : MethodId} {args : Array Value} {below : List Frame} {meth : Method} {c : Code} {D : zk_G} {g : zk_M} {b0 : Nat} (X : zk_X p s m args meth c D g b0 cX0_burdensOn 5 "LandFolio" "burdensOn" (some Jvm.ClassFile.FieldType.int)) {post : Int32 → zk_H → Prop} {K18 : Int32 → zk_H → Prop} {a1 : Int32} {a3 : Option Nat} {s0 : Int32} {s1 : Int32} {P : zk_H}  (hK18 : ∀ (u2 : Int32) (U : zk_H), K18 u2 U → zV p l e ({ frames := 7, cells := 2, slots := 4, locals := 151 } : Room) s m args below meth c D b0 5 (2) (4) (MQ below (va_Qi post (zk_B D b0) (zk_A b0)) args s 2 4 (zk_A b0)) U 18 [(1, .int (a1)), (2, .int (u2)), (3, va_rf (a3))] [])  (hh : wj_X0_burdensOn_53 post K18 a1 a3 s0 s1 P) : zV p l e ({ frames := 7, cells := 2, slots := 4, locals := 151 } : Room) s m args below meth c D b0 5 (2) (4) (MQ below (va_Qi post (zk_B D b0) (zk_A b0)) args s 2 4 (zk_A b0)) P 53 [(1, .int (a1)), (3, va_rf (a3))] [.int (s0), .int (s1)] := by
  have h := hh
  unfold wj_X0_burdensOn_53 at h
  refine zv_iadd X dX0_burdensOn_53 ?_
  refine zv_top_i h (fun v54 h => ?_)
  refine zv_istore_n X (i := 2) (L' := [(2, .int (v54)), (1, .int (a1)), (3, va_rf (a3))]) dX0_burdensOn_54 rfl (by decide) rfl ?_
  refine zv_goto X (tgt := 18) dX0_burdensOn_55 (by decide) ?_
  refine zv_sub (L' := [(1, .int (a1)), (2, .int (v54)), (3, va_rf (a3))]) [1, 0, 2] rfl ?_
  refine zv_widen (c2 := 2) (s2 := 4) (by first | exact Nat.le_refl _ | omega) (by first | exact Nat.le_refl _ | omega) ?_
  exact hK18 _ _ h
theorem kb_X0_burdensOn_18 {p : Program} {l : Launch} {e : Env} {s : State} {m : MethodId} {args : Array Value} {below : List Frame} {meth : Method} {c : Code} {D : zk_G} {g : zk_M} {b0 : Nat} (X : zk_X p s m args meth c D g b0 cX0_burdensOn 5 "LandFolio" "burdensOn" (some Jvm.ClassFile.FieldType.int)) {post : Int32 → zk_H → Prop}  {K18 : Int32 → zk_H → Prop} {a1 : Int32} {a2 : Int32} {a3 : Option Nat} {P : zk_H}   (hK18 : ∀ (u2 : Int32) (U : zk_H), K18 u2 U → zV p l e ({ frames := 7, cells := 2, slots := 4, locals := 151 } : Room) s m args below meth c D b0 5 (2) (4) (MQ below (va_Qi post (zk_B D b0) (zk_A b0)) args s 2 4 (zk_A b0)) U 18 [(1, .int (a1)), (2, .int (u2)), (3, va_rf (a3))] [])  (hh : wb_X0_burdensOn_18 post a1 a3 K18 a2 P) : zV p l e ({ frames := 7, cells := 2, slots := 4, locals := 151 } : Room) s m args below meth c D b0 5 (2) (4) (MQ below (va_Qi post (zk_B D b0) (zk_A b0)) args s 2 4 (zk_A b0)) P 18 [(1, .int (a1)), (2, .int (a2)), (3, va_rf (a3))] [] := by
  have h := hh
  unfold wb_X0_burdensOn_18 at h
  refine zv_aload_n X 2 dX0_burdensOn_18 rfl ?_
  refine zv_ciR5 ((zr_Fl X (As := []) (rest := []) h (fun a h => wk_X13_hasNext l h) (zk_l1 ⟨_, rfl, va_cwF 0 X.hts (zk_wsF q1666 q1670 q1672 q137 q1674) rfl rfl rfl (X.fw (i := 1) rfl) ⟨by decide, by decide, md_X13_hasNext.2.2⟩ ⟨Nat.le_of_ble_eq_true rfl, Nat.le_of_ble_eq_true rfl⟩⟩) rfl rfl (zk_rs (Nat.le_of_ble_eq_true rfl)) dX0_burdensOn_19 ⟨by first | exact Nat.le_of_ble_eq_true rfl | omega | (dsimp only; omega), by first | exact Nat.le_of_ble_eq_true rfl | omega | (dsimp only; omega)⟩)) (fun v19 h => ?_)
  refine zv_if_eq X (tgt := 58) dX0_burdensOn_24 (by decide) h (fun h => ?_) (fun h => ?_)
  · refine zv_iload_n X 1 dX0_burdensOn_58 rfl ?_
    exact zv_iret X rfl (by first | exact Nat.le_of_ble_eq_true rfl | omega | (dsimp only; omega)) (by first | exact Nat.le_of_ble_eq_true rfl | omega | (dsimp only; omega)) dX0_burdensOn_59 h
  · refine zv_aload_n X 2 dX0_burdensOn_27 rfl ?_
    refine zv_cq5 ((zr_Fl X (As := []) (rest := []) h (fun a h => wk_X13_next l h) (zk_l1 ⟨_, rfl, va_cwF 0 X.hts (zk_wsF q1676 q1679 q1681 q137 q1683) rfl rfl rfl (X.fw (i := 2) rfl) ⟨by decide, by decide, md_X13_next.2.2⟩ ⟨Nat.le_of_ble_eq_true rfl, Nat.le_of_ble_eq_true rfl⟩⟩) rfl rfl (zk_rs (Nat.le_of_ble_eq_true rfl)) dX0_burdensOn_28 ⟨by first | exact Nat.le_of_ble_eq_true rfl | omega | (dsimp only; omega), by first | exact Nat.le_of_ble_eq_true rfl | omega | (dsimp only; omega)⟩)) (fun v28 P28 h => ?_)
    refine zv_cast X zk_cs1 q1711 dX0_burdensOn_33 h (fun h => ?_)
    refine zv_astore X (L' := [(4, va_rf (v28)), (1, .int (a1)), (2, .int (a2)), (3, va_rf (a3))]) dX0_burdensOn_36 (by decide) (by simp [zk_s1, zk_s2, zk_rc, zk_ic, zk_jc]) ?_
    refine zv_iload_n X 2 dX0_burdensOn_38 rfl ?_
    refine zv_aload X 0 dX0_burdensOn_39 rfl ?_
    refine zv_iload_n X 1 dX0_burdensOn_41 rfl ?_
    refine zv_ciR ((zr_Ul X (As := [.int (a1)]) (rest := [.int (a2)]) h (fun a h => wk_X7_isOn l h) (zk_l2 ⟨_, rfl, _, va_cwU 1 X.hts (zk_wsU q1515 q1208 q1209 q1207 q127 q1211) rfl rfl rfl rfl md_X7_isOn ⟨Nat.le_of_ble_eq_true rfl, Nat.le_of_ble_eq_true rfl⟩⟩ ⟨_, rfl, _, va_cwU 1 X.hts (zk_wsU q1515 q1208 q1210 q1207 q127 q1211) rfl rfl rfl rfl md_X7_isOn ⟨Nat.le_of_ble_eq_true rfl, Nat.le_of_ble_eq_true rfl⟩⟩) rfl rfl (zk_rs (Nat.le_of_ble_eq_true rfl)) dX0_burdensOn_42 ⟨by first | exact Nat.le_of_ble_eq_true rfl | omega | (dsimp only; omega), by first | exact Nat.le_of_ble_eq_true rfl | omega | (dsimp only; omega)⟩)) (fun v42 h => ?_)
    refine zv_if_eq X (tgt := 52) dX0_burdensOn_45 (by decide) h (fun h => ?_) (fun h => ?_)
    · refine zv_iconst X (v := 0) dX0_burdensOn_52 rfl ?_
      refine zv_sub (L' := [(1, .int (a1)), (3, va_rf (a3))]) [1, 3] rfl ?_
      refine zv_widen (c2 := 2) (s2 := 4) (by first | exact Nat.le_of_ble_eq_true rfl | omega | (dsimp only; omega)) (by first | exact Nat.le_of_ble_eq_true rfl | omega | (dsimp only; omega)) ?_
      exact kj_X0_burdensOn_53 X hK18 h
    · refine zv_iconst X (v := 1) dX0_burdensOn_48 rfl ?_
      refine zv_goto X (tgt := 53) dX0_burdensOn_49 (by decide) ?_
      refine zv_sub (L' := [(1, .int (a1)), (3, va_rf (a3))]) [1, 3] rfl ?_
      refine zv_widen (c2 := 2) (s2 := 4) (by first | exact Nat.le_of_ble_eq_true rfl | omega | (dsimp only; omega)) (by first | exact Nat.le_of_ble_eq_true rfl | omega | (dsimp only; omega)) ?_
      exact kj_X0_burdensOn_53 X hK18 h
theorem kl_X0_burdensOn_18 {p : Program} {l : Launch} {e : Env} {s : State} {m : MethodId} {args : Array Value} {below : List Frame} {meth : Method} {c : Code} {D : zk_G} {g : zk_M} {b0 : Nat} (X : zk_X p s m args meth c D g b0 cX0_burdensOn 5 "LandFolio" "burdensOn" (some Jvm.ClassFile.FieldType.int)) {post : Int32 → zk_H → Prop}  {a1 : Int32} {a3 : Option Nat}   : ∀ (n : Nat) (a2 : Int32) (P : zk_H), wl_X0_burdensOn_18 post a1 a3 n a2 P → zV p l e ({ frames := 7, cells := 2, slots := 4, locals := 151 } : Room) s m args below meth c D b0 5 (2) (4) (MQ below (va_Qi post (zk_B D b0) (zk_A b0)) args s 2 4 (zk_A b0)) P 18 [(1, .int (a1)), (2, .int (a2)), (3, va_rf (a3))] [] := by
  intro n
  induction n with
  | zero => intro _ _ h; exact h.elim
  | succ n ih =>
    intro a2 P h
    exact kb_X0_burdensOn_18 X  (fun u0 u1 h => ih _ _ h)  h
theorem md_X0_burdensOn : yX0_burdensOn.cls ≠ "java/lang/invoke/MethodHandle" ∧ yX0_burdensOn.cls ≠ "java/lang/invoke/VarHandle" ∧ (parseMethodDescriptor yX0_burdensOn.desc).map (fun d => d.parameters.length) = some 1 := by decide +kernel
theorem wk_X0_burdensOn (l : Launch) {D : zk_G} {g : zk_M} {b0 : Nat} {post : Int32 → zk_H → Prop} {this : Nat} {x1 : Int32} {P : zk_H} (hh : wp_X0_burdensOn post this x1 P) : Met l yX0_burdensOn (ws_ yX0_burdensOn cX0_burdensOn 5 (some Jvm.ClassFile.FieldType.int)) ({ frames := 7, cells := 2, slots := 4, locals := 151 } : Room) (va_Pc [.ref this, .int (x1)] (zk_pre D g b0 P)) (va_Qi post (zk_B D b0) (zk_A b0)) 2 4 (zk_A b0) := by
  refine zk_enter "LandFolio" "burdensOn" rfl rfl (plainFor_of_name (by decide)) [.ref this, .int (x1)] (Nat.le_of_ble_eq_true rfl) ?_
  intro p e s m args below meth c X
  refine zk_at0 (L' := [(0, va_rf (some this)), (1, .int (x1))]) (rfl) ?_
  have h := hh
  unfold wp_X0_burdensOn at h
  refine zv_iconst X (v := 0) dX0_burdensOn_0 rfl ?_
  refine zv_istore_n X (i := 2) (L' := [(2, .int (0)), (0, va_rf (some this)), (1, .int (x1))]) dX0_burdensOn_1 rfl (by decide) rfl ?_
  refine zv_new X zk_nc10 q1628 (by first | exact Nat.le_of_ble_eq_true rfl | omega | (dsimp only; omega)) (by first | exact Nat.le_of_ble_eq_true rfl | omega | (dsimp only; omega)) dX0_burdensOn_2 h (fun v2 P2 h => ?_)
  refine zv_dup X dX0_burdensOn_5 (zk_rc _) ?_
  refine zv_aload_n X 1 dX0_burdensOn_6 rfl ?_
  refine zv_getf_r X fo_q402 dX0_burdensOn_7 h (fun v7 h => ?_)
  refine zv_iload_n X 2 dX0_burdensOn_10 rfl ?_
  refine zv_cv ((zr_I X (As := [va_rf (v7), .int (x1)]) (rest := [va_rf (some v2)]) (wk_X12_init l h) (cwI 2 X.hts (lw_meth q1632) rfl rfl rfl (X.w q136) (X.w q1630) (X.w q1631) rfl md_X12_init ⟨Nat.le_of_ble_eq_true rfl, Nat.le_of_ble_eq_true rfl⟩) rfl rfl (zk_rs (Nat.le_of_ble_eq_true rfl)) dX0_burdensOn_11 ⟨by first | exact Nat.le_of_ble_eq_true rfl | omega | (dsimp only; omega), by first | exact Nat.le_of_ble_eq_true rfl | omega | (dsimp only; omega)⟩)) (fun P11 h => ?_)
  refine zv_cq ((zr_Vl X (As := []) (rest := []) h (fun a h => wk_X12_iterator l h) (zk_l1 ⟨_, rfl, cwV 0 X.hts (lw_V q1641 q1642 q1643 q136 q1644) rfl rfl rfl ⟨rfl, md_X12_iterator⟩ ⟨Nat.le_of_ble_eq_true rfl, Nat.le_of_ble_eq_true rfl⟩⟩) rfl rfl (zk_rs (Nat.le_of_ble_eq_true rfl)) dX0_burdensOn_14 ⟨by first | exact Nat.le_of_ble_eq_true rfl | omega | (dsimp only; omega), by first | exact Nat.le_of_ble_eq_true rfl | omega | (dsimp only; omega)⟩)) (fun v14 P14 h => ?_)
  refine zv_astore_n X (i := 3) (L' := [(3, va_rf (v14)), (2, .int (0)), (0, va_rf (some this)), (1, .int (x1))]) dX0_burdensOn_17 rfl (by decide) rfl ?_
  refine zv_sub (L' := [(1, .int (x1)), (2, .int (0)), (3, va_rf (v14))]) [3, 1, 0] rfl ?_
  obtain ⟨n17, h⟩ := h
  refine zv_widen (c2 := 2) (s2 := 4) (by first | exact Nat.le_refl _ | omega) (by first | exact Nat.le_refl _ | omega) ?_
  exact kl_X0_burdensOn_18 X  n17 _ _ h
theorem md_X0_parcel : yX0_parcel.cls ≠ "java/lang/invoke/MethodHandle" ∧ yX0_parcel.cls ≠ "java/lang/invoke/VarHandle" ∧ (parseMethodDescriptor yX0_parcel.desc).map (fun d => d.parameters.length) = some 2 := by decide +kernel
theorem wk_X0_parcel (l : Launch) {D : zk_G} {g : zk_M} {b0 : Nat} {post : Int32 → zk_H → Prop} {this : Nat} {x1 : Int32} {x2 : Int32} {P : zk_H} (hh : wp_X0_parcel post this x1 x2 P) : Met l yX0_parcel (ws_ yX0_parcel cX0_parcel 4 (some Jvm.ClassFile.FieldType.int)) ({ frames := 8, cells := 2, slots := 4, locals := 175 } : Room) (va_Pc [.ref this, .int (x1), .int (x2)] (zk_pre D g b0 P)) (va_Qi post (zk_B D b0) (zk_A b0)) 2 4 (zk_A b0) := by
  refine zk_enter "LandFolio" "parcel" rfl rfl (plainFor_of_name (by decide)) [.ref this, .int (x1), .int (x2)] (Nat.le_of_ble_eq_true rfl) ?_
  intro p e s m args below meth c X
  refine zk_at0 (L' := [(0, va_rf (some this)), (1, .int (x1)), (2, .int (x2))]) (rfl) ?_
  have h := hh
  unfold wp_X0_parcel at h
  refine zv_aload_n X 0 dX0_parcel_0 rfl ?_
  refine zv_iload_n X 1 dX0_parcel_1 rfl ?_
  refine zv_ciR ((zr_Vl X (As := [.int (x1)]) (rest := []) h (fun a h => wk_X0_isParcel l h) (zk_l1 ⟨_, rfl, cwV 1 X.hts (lw_V q1364 q1366 qs33 q102 q1367) rfl rfl rfl ⟨rfl, md_X0_isParcel⟩ ⟨Nat.le_of_ble_eq_true rfl, Nat.le_of_ble_eq_true rfl⟩⟩) rfl rfl (zk_rs (Nat.le_of_ble_eq_true rfl)) dX0_parcel_2 ⟨by first | exact Nat.le_of_ble_eq_true rfl | omega | (dsimp only; omega), by first | exact Nat.le_of_ble_eq_true rfl | omega | (dsimp only; omega)⟩)) (fun v2 h => ?_)
  refine zv_if_ne X (tgt := 10) dX0_parcel_5 (by decide) h (fun h => ?_) (fun h => ?_)
  · refine zv_aload_n X 0 dX0_parcel_10 rfl ?_
    refine zv_getf_r X fo_q402 dX0_parcel_11 h (fun v11 h => ?_)
    refine zv_iload_n X 1 dX0_parcel_14 rfl ?_
    refine zv_cqR ((zr_Vl X (As := [.int (x1)]) (rest := []) h (fun a h => wk_X1_parcel l h) (zk_l1 ⟨_, rfl, cwV 1 X.hts (lw_V q1371 q502 q503 q103 q504) rfl rfl rfl ⟨rfl, md_X1_parcel⟩ ⟨Nat.le_of_ble_eq_true rfl, Nat.le_of_ble_eq_true rfl⟩⟩) rfl rfl (zk_rs (Nat.le_of_ble_eq_true rfl)) dX0_parcel_15 ⟨by first | exact Nat.le_of_ble_eq_true rfl | omega | (dsimp only; omega), by first | exact Nat.le_of_ble_eq_true rfl | omega | (dsimp only; omega)⟩)) (fun v15 h => ?_)
    refine zv_astore_n X (i := 3) (L' := [(3, va_rf (v15)), (0, va_rf (some this)), (1, .int (x1)), (2, .int (x2))]) dX0_parcel_18 rfl (by decide) rfl ?_
    refine zv_iload_n X 3 dX0_parcel_19 rfl ?_
    by_cases z20_0 : x2 = 0
    · have h := h.1 z20_0
      refine zv_tableIn X (off := 72) (tgt := 92) dX0_parcel_20 (by rw [z20_0]; decide) (by rw [z20_0]; decide) (by rw [z20_0]; decide) (by decide) ?_
      refine zv_aload_n X 0 dX0_parcel_92 rfl ?_
      refine zv_getf_i X fo_q309 dX0_parcel_93 h (fun v93 h => ?_)
      refine zv_goto X (tgt := 218) dX0_parcel_96 (by decide) ?_
      exact zv_iret X rfl (by first | exact Nat.le_of_ble_eq_true rfl | omega | (dsimp only; omega)) (by first | exact Nat.le_of_ble_eq_true rfl | omega | (dsimp only; omega)) dX0_parcel_218 h
    have h := h.2 z20_0
    by_cases z20_1 : x2 = 1
    · have h := h.1 z20_1
      refine zv_tableIn X (off := 79) (tgt := 99) dX0_parcel_20 (by rw [z20_1]; decide) (by rw [z20_1]; decide) (by rw [z20_1]; decide) (by decide) ?_
      refine zv_aload_n X 0 dX0_parcel_99 rfl ?_
      refine zv_getf_i X fo_q312 dX0_parcel_100 h (fun v100 h => ?_)
      refine zv_goto X (tgt := 218) dX0_parcel_103 (by decide) ?_
      exact zv_iret X rfl (by first | exact Nat.le_of_ble_eq_true rfl | omega | (dsimp only; omega)) (by first | exact Nat.le_of_ble_eq_true rfl | omega | (dsimp only; omega)) dX0_parcel_218 h
    have h := h.2 z20_1
    by_cases z20_2 : x2 = 2
    · have h := h.1 z20_2
      refine zv_tableIn X (off := 86) (tgt := 106) dX0_parcel_20 (by rw [z20_2]; decide) (by rw [z20_2]; decide) (by rw [z20_2]; decide) (by decide) ?_
      refine zv_aload_n X 0 dX0_parcel_106 rfl ?_
      refine zv_getf_i X fo_q314 dX0_parcel_107 h (fun v107 h => ?_)
      refine zv_goto X (tgt := 218) dX0_parcel_110 (by decide) ?_
      exact zv_iret X rfl (by first | exact Nat.le_of_ble_eq_true rfl | omega | (dsimp only; omega)) (by first | exact Nat.le_of_ble_eq_true rfl | omega | (dsimp only; omega)) dX0_parcel_218 h
    have h := h.2 z20_2
    by_cases z20_3 : x2 = 3
    · have h := h.1 z20_3
      refine zv_tableIn X (off := 93) (tgt := 113) dX0_parcel_20 (by rw [z20_3]; decide) (by rw [z20_3]; decide) (by rw [z20_3]; decide) (by decide) ?_
      refine zv_aload_n X 0 dX0_parcel_113 rfl ?_
      refine zv_getf_i X fo_q318 dX0_parcel_114 h (fun v114 h => ?_)
      refine zv_goto X (tgt := 218) dX0_parcel_117 (by decide) ?_
      exact zv_iret X rfl (by first | exact Nat.le_of_ble_eq_true rfl | omega | (dsimp only; omega)) (by first | exact Nat.le_of_ble_eq_true rfl | omega | (dsimp only; omega)) dX0_parcel_218 h
    have h := h.2 z20_3
    by_cases z20_4 : x2 = 4
    · have h := h.1 z20_4
      refine zv_tableIn X (off := 100) (tgt := 120) dX0_parcel_20 (by rw [z20_4]; decide) (by rw [z20_4]; decide) (by rw [z20_4]; decide) (by decide) ?_
      refine zv_aload_n X 0 dX0_parcel_120 rfl ?_
      refine zv_ciR ((zr_Vl X (As := []) (rest := []) h (fun a h => wk_X2_area l h) (zk_l1 ⟨_, rfl, cwV 0 X.hts (lw_V q1623 q1546 q1547 q111 q1548) rfl rfl rfl ⟨rfl, md_X2_area⟩ ⟨Nat.le_of_ble_eq_true rfl, Nat.le_of_ble_eq_true rfl⟩⟩) rfl rfl (zk_rs (Nat.le_of_ble_eq_true rfl)) dX0_parcel_121 ⟨by first | exact Nat.le_of_ble_eq_true rfl | omega | (dsimp only; omega), by first | exact Nat.le_of_ble_eq_true rfl | omega | (dsimp only; omega)⟩)) (fun v121 h => ?_)
      refine zv_goto X (tgt := 218) dX0_parcel_124 (by decide) ?_
      exact zv_iret X rfl (by first | exact Nat.le_of_ble_eq_true rfl | omega | (dsimp only; omega)) (by first | exact Nat.le_of_ble_eq_true rfl | omega | (dsimp only; omega)) dX0_parcel_218 h
    have h := h.2 z20_4
    by_cases z20_5 : x2 = 5
    · have h := h.1 z20_5
      refine zv_tableIn X (off := 107) (tgt := 127) dX0_parcel_20 (by rw [z20_5]; decide) (by rw [z20_5]; decide) (by rw [z20_5]; decide) (by decide) ?_
      refine zv_aload_n X 0 dX0_parcel_127 rfl ?_
      refine zv_ciR ((zr_Vl X (As := []) (rest := []) h (fun a h => wk_X2_isLive l h) (zk_l1 ⟨_, rfl, cwV 0 X.hts (lw_V q1570 q1177 q1178 q111 q1179) rfl rfl rfl ⟨rfl, md_X2_isLive⟩ ⟨Nat.le_of_ble_eq_true rfl, Nat.le_of_ble_eq_true rfl⟩⟩) rfl rfl (zk_rs (Nat.le_of_ble_eq_true rfl)) dX0_parcel_128 ⟨by first | exact Nat.le_of_ble_eq_true rfl | omega | (dsimp only; omega), by first | exact Nat.le_of_ble_eq_true rfl | omega | (dsimp only; omega)⟩)) (fun v128 h => ?_)
      refine zv_if_eq X (tgt := 138) dX0_parcel_131 (by decide) h (fun h => ?_) (fun h => ?_)
      · refine zv_iconst X (v := 0) dX0_parcel_138 rfl ?_
        refine zv_goto X (tgt := 218) dX0_parcel_139 (by decide) ?_
        exact zv_iret X rfl (by first | exact Nat.le_of_ble_eq_true rfl | omega | (dsimp only; omega)) (by first | exact Nat.le_of_ble_eq_true rfl | omega | (dsimp only; omega)) dX0_parcel_218 h
      · refine zv_iconst X (v := 1) dX0_parcel_134 rfl ?_
        refine zv_goto X (tgt := 218) dX0_parcel_135 (by decide) ?_
        exact zv_iret X rfl (by first | exact Nat.le_of_ble_eq_true rfl | omega | (dsimp only; omega)) (by first | exact Nat.le_of_ble_eq_true rfl | omega | (dsimp only; omega)) dX0_parcel_218 h
    have h := h.2 z20_5
    by_cases z20_6 : x2 = 6
    · have h := h.1 z20_6
      refine zv_tableIn X (off := 122) (tgt := 142) dX0_parcel_20 (by rw [z20_6]; decide) (by rw [z20_6]; decide) (by rw [z20_6]; decide) (by decide) ?_
      refine zv_aload_n X 0 dX0_parcel_142 rfl ?_
      refine zv_getf_i X fo_q321 dX0_parcel_143 h (fun v143 h => ?_)
      refine zv_goto X (tgt := 218) dX0_parcel_146 (by decide) ?_
      exact zv_iret X rfl (by first | exact Nat.le_of_ble_eq_true rfl | omega | (dsimp only; omega)) (by first | exact Nat.le_of_ble_eq_true rfl | omega | (dsimp only; omega)) dX0_parcel_218 h
    have h := h.2 z20_6
    by_cases z20_7 : x2 = 7
    · have h := h.1 z20_7
      refine zv_tableIn X (off := 129) (tgt := 149) dX0_parcel_20 (by rw [z20_7]; decide) (by rw [z20_7]; decide) (by rw [z20_7]; decide) (by decide) ?_
      refine zv_aload_n X 0 dX0_parcel_149 rfl ?_
      refine zv_getf_i X fo_q328 dX0_parcel_150 h (fun v150 h => ?_)
      refine zv_goto X (tgt := 218) dX0_parcel_153 (by decide) ?_
      exact zv_iret X rfl (by first | exact Nat.le_of_ble_eq_true rfl | omega | (dsimp only; omega)) (by first | exact Nat.le_of_ble_eq_true rfl | omega | (dsimp only; omega)) dX0_parcel_218 h
    have h := h.2 z20_7
    by_cases z20_8 : x2 = 8
    · have h := h.1 z20_8
      refine zv_tableIn X (off := 136) (tgt := 156) dX0_parcel_20 (by rw [z20_8]; decide) (by rw [z20_8]; decide) (by rw [z20_8]; decide) (by decide) ?_
      refine zv_aload_n X 0 dX0_parcel_156 rfl ?_
      refine zv_getf_i X fo_q332 dX0_parcel_157 h (fun v157 h => ?_)
      refine zv_if_eq X (tgt := 167) dX0_parcel_160 (by decide) h (fun h => ?_) (fun h => ?_)
      · refine zv_iconst X (v := 0) dX0_parcel_167 rfl ?_
        refine zv_goto X (tgt := 218) dX0_parcel_168 (by decide) ?_
        exact zv_iret X rfl (by first | exact Nat.le_of_ble_eq_true rfl | omega | (dsimp only; omega)) (by first | exact Nat.le_of_ble_eq_true rfl | omega | (dsimp only; omega)) dX0_parcel_218 h
      · refine zv_iconst X (v := 1) dX0_parcel_163 rfl ?_
        refine zv_goto X (tgt := 218) dX0_parcel_164 (by decide) ?_
        exact zv_iret X rfl (by first | exact Nat.le_of_ble_eq_true rfl | omega | (dsimp only; omega)) (by first | exact Nat.le_of_ble_eq_true rfl | omega | (dsimp only; omega)) dX0_parcel_218 h
    have h := h.2 z20_8
    by_cases z20_9 : x2 = 9
    · have h := h.1 z20_9
      refine zv_tableIn X (off := 151) (tgt := 171) dX0_parcel_20 (by rw [z20_9]; decide) (by rw [z20_9]; decide) (by rw [z20_9]; decide) (by decide) ?_
      refine zv_aload_n X 1 dX0_parcel_171 rfl ?_
      refine zv_iload_n X 2 dX0_parcel_172 rfl ?_
      refine zv_ci ((zr_Vl X (As := [.int (x1)]) (rest := []) h (fun a h => wk_X0_burdensOn l h) (zk_l1 ⟨_, rfl, cwV 1 X.hts (lw_V q1624 q1626 qs43 q102 q1627) rfl rfl rfl ⟨rfl, md_X0_burdensOn⟩ ⟨Nat.le_of_ble_eq_true rfl, Nat.le_of_ble_eq_true rfl⟩⟩) rfl rfl (zk_rs (Nat.le_of_ble_eq_true rfl)) dX0_parcel_173 ⟨by first | exact Nat.le_of_ble_eq_true rfl | omega | (dsimp only; omega), by first | exact Nat.le_of_ble_eq_true rfl | omega | (dsimp only; omega)⟩)) (fun v173 P173 h => ?_)
      refine zv_goto X (tgt := 218) dX0_parcel_176 (by decide) ?_
      exact zv_iret X rfl (by first | exact Nat.le_of_ble_eq_true rfl | omega | (dsimp only; omega)) (by first | exact Nat.le_of_ble_eq_true rfl | omega | (dsimp only; omega)) dX0_parcel_218 h
    have h := h.2 z20_9
    by_cases z20_10 : x2 = 10
    · have h := h.1 z20_10
      refine zv_tableIn X (off := 159) (tgt := 179) dX0_parcel_20 (by rw [z20_10]; decide) (by rw [z20_10]; decide) (by rw [z20_10]; decide) (by decide) ?_
      refine zv_aload_n X 1 dX0_parcel_179 rfl ?_
      refine zv_getf_r X fo_q402 dX0_parcel_180 h (fun v180 h => ?_)
      refine zv_iload_n X 2 dX0_parcel_183 rfl ?_
      refine zv_ciR ((zr_Vl X (As := [.int (x1)]) (rest := []) h (fun a h => wk_X1_load l h) (zk_l1 ⟨_, rfl, cwV 1 X.hts (lw_V q1712 q1713 q1714 q103 q1715) rfl rfl rfl ⟨rfl, md_X1_load⟩ ⟨Nat.le_of_ble_eq_true rfl, Nat.le_of_ble_eq_true rfl⟩⟩) rfl rfl (zk_rs (Nat.le_of_ble_eq_true rfl)) dX0_parcel_184 ⟨by first | exact Nat.le_of_ble_eq_true rfl | omega | (dsimp only; omega), by first | exact Nat.le_of_ble_eq_true rfl | omega | (dsimp only; omega)⟩)) (fun v184 h => ?_)
      refine zv_goto X (tgt := 218) dX0_parcel_187 (by decide) ?_
      exact zv_iret X rfl (by first | exact Nat.le_of_ble_eq_true rfl | omega | (dsimp only; omega)) (by first | exact Nat.le_of_ble_eq_true rfl | omega | (dsimp only; omega)) dX0_parcel_218 h
    have h := h.2 z20_10
    by_cases z20_11 : x2 = 11
    · have h := h.1 z20_11
      refine zv_tableIn X (off := 170) (tgt := 190) dX0_parcel_20 (by rw [z20_11]; decide) (by rw [z20_11]; decide) (by rw [z20_11]; decide) (by decide) ?_
      refine zv_aload_n X 1 dX0_parcel_190 rfl ?_
      refine zv_getf_r X fo_q402 dX0_parcel_191 h (fun v191 h => ?_)
      refine zv_iload_n X 2 dX0_parcel_194 rfl ?_
      refine zv_ciR ((zr_Vl X (As := [.int (x1)]) (rest := []) h (fun a h => wk_X1_value l h) (zk_l1 ⟨_, rfl, cwV 1 X.hts (lw_V q1716 q1542 q1543 q103 q1544) rfl rfl rfl ⟨rfl, md_X1_value⟩ ⟨Nat.le_of_ble_eq_true rfl, Nat.le_of_ble_eq_true rfl⟩⟩) rfl rfl (zk_rs (Nat.le_of_ble_eq_true rfl)) dX0_parcel_195 ⟨by first | exact Nat.le_of_ble_eq_true rfl | omega | (dsimp only; omega), by first | exact Nat.le_of_ble_eq_true rfl | omega | (dsimp only; omega)⟩)) (fun v195 h => ?_)
      refine zv_goto X (tgt := 218) dX0_parcel_198 (by decide) ?_
      exact zv_iret X rfl (by first | exact Nat.le_of_ble_eq_true rfl | omega | (dsimp only; omega)) (by first | exact Nat.le_of_ble_eq_true rfl | omega | (dsimp only; omega)) dX0_parcel_218 h
    have h := h.2 z20_11
    by_cases z20_12 : x2 = 12
    · have h := h.1 z20_12
      refine zv_tableIn X (off := 181) (tgt := 201) dX0_parcel_20 (by rw [z20_12]; decide) (by rw [z20_12]; decide) (by rw [z20_12]; decide) (by decide) ?_
      refine zv_aload_n X 1 dX0_parcel_201 rfl ?_
      refine zv_iload_n X 2 dX0_parcel_202 rfl ?_
      refine zv_ciR ((zr_Vl X (As := [.int (x1)]) (rest := []) h (fun a h => wk_X0_holders l h) (zk_l1 ⟨_, rfl, cwV 1 X.hts (lw_V q1717 q1719 qs45 q102 q1720) rfl rfl rfl ⟨rfl, md_X0_holders⟩ ⟨Nat.le_of_ble_eq_true rfl, Nat.le_of_ble_eq_true rfl⟩⟩) rfl rfl (zk_rs (Nat.le_of_ble_eq_true rfl)) dX0_parcel_203 ⟨by first | exact Nat.le_of_ble_eq_true rfl | omega | (dsimp only; omega), by first | exact Nat.le_of_ble_eq_true rfl | omega | (dsimp only; omega)⟩)) (fun v203 h => ?_)
      refine zv_goto X (tgt := 218) dX0_parcel_206 (by decide) ?_
      exact zv_iret X rfl (by first | exact Nat.le_of_ble_eq_true rfl | omega | (dsimp only; omega)) (by first | exact Nat.le_of_ble_eq_true rfl | omega | (dsimp only; omega)) dX0_parcel_218 h
    have h := h.2 z20_12
    by_cases z20_13 : x2 = 13
    · have h := h.1 z20_13
      refine zv_tableIn X (off := 189) (tgt := 209) dX0_parcel_20 (by rw [z20_13]; decide) (by rw [z20_13]; decide) (by rw [z20_13]; decide) (by decide) ?_
      refine zv_aload_n X 1 dX0_parcel_209 rfl ?_
      refine zv_iload_n X 2 dX0_parcel_210 rfl ?_
      refine zv_ciR ((zr_Vl X (As := [.int (x1)]) (rest := []) h (fun a h => wk_X0_neighbours l h) (zk_l1 ⟨_, rfl, cwV 1 X.hts (lw_V q1610 q1612 qs41 q102 q1613) rfl rfl rfl ⟨rfl, md_X0_neighbours⟩ ⟨Nat.le_of_ble_eq_true rfl, Nat.le_of_ble_eq_true rfl⟩⟩) rfl rfl (zk_rs (Nat.le_of_ble_eq_true rfl)) dX0_parcel_211 ⟨by first | exact Nat.le_of_ble_eq_true rfl | omega | (dsimp only; omega), by first | exact Nat.le_of_ble_eq_true rfl | omega | (dsimp only; omega)⟩)) (fun v211 h => ?_)
      refine zv_goto X (tgt := 218) dX0_parcel_214 (by decide) ?_
      exact zv_iret X rfl (by first | exact Nat.le_of_ble_eq_true rfl | omega | (dsimp only; omega)) (by first | exact Nat.le_of_ble_eq_true rfl | omega | (dsimp only; omega)) dX0_parcel_218 h
    have h := h.2 z20_13
    have z20_0 := zk_tn (n := 0) (by decide) z20_0
    have z20_1 := zk_tn (n := 1) (by decide) z20_1
    have z20_2 := zk_tn (n := 2) (by decide) z20_2
    have z20_3 := zk_tn (n := 3) (by decide) z20_3
    have z20_4 := zk_tn (n := 4) (by decide) z20_4
    have z20_5 := zk_tn (n := 5) (by decide) z20_5
    have z20_6 := zk_tn (n := 6) (by decide) z20_6
    have z20_7 := zk_tn (n := 7) (by decide) z20_7
    have z20_8 := zk_tn (n := 8) (by decide) z20_8
    have z20_9 := zk_tn (n := 9) (by decide) z20_9
    have z20_10 := zk_tn (n := 10) (by decide) z20_10
    have z20_11 := zk_tn (n := 11) (by decide) z20_11
    have z20_12 := zk_tn (n := 12) (by decide) z20_12
    have z20_13 := zk_tn (n := 13) (by decide) z20_13
    refine zv_tableOut X (tgt := 217) dX0_parcel_20 (by omega) (by decide) ?_
    refine zv_iconst X (v := -1) dX0_parcel_217 rfl ?_
    exact zv_iret X rfl (by first | exact Nat.le_of_ble_eq_true rfl | omega | (dsimp only; omega)) (by first | exact Nat.le_of_ble_eq_true rfl | omega | (dsimp only; omega)) dX0_parcel_218 h
  · refine zv_iconst X (v := -1) dX0_parcel_8 rfl ?_
    exact zv_iret X rfl (by first | exact Nat.le_of_ble_eq_true rfl | omega | (dsimp only; omega)) (by first | exact Nat.le_of_ble_eq_true rfl | omega | (dsimp only; omega)) dX0_parcel_9 h
theorem md_X2_parentAt : yX2_parentAt.cls ≠ "java/lang/invoke/MethodHandle" ∧ yX2_parentAt.cls ≠ "java/lang/invoke/VarHandle" ∧ (parseMethodDescriptor yX2_parentAt.desc).map (fun d => d.parameters.length) = some 1 := by decide +kernel
theorem wk_X2_parentAt (l : Launch) {D : zk_G} {g : zk_M} {b0 : Nat} {post : Int32 → Prop} {this : Nat} {x1 : Int32} {P : zk_H} (hh : wp_X2_parentAt post this x1 P) : Met l yX2_parentAt (ws_ yX2_parentAt cX2_parentAt 2 (some Jvm.ClassFile.FieldType.int)) ({ frames := 0, cells := 0, slots := 0, locals := 0 } : Room) (va_Pc [.ref this, .int (x1)] (zk_pre D g b0 P)) (va_Qi (fun r u => post r ∧ u = P) (zk_B D b0) (zk_A b0)) 0 0 (zk_A b0) := by
  refine zk_enter "LandFolio$Parcel" "parentAt" rfl rfl (plainFor_of_name (by decide)) [.ref this, .int (x1)] (Nat.le_of_ble_eq_true rfl) ?_
  intro p e s m args below meth c X
  refine zk_at0 (L' := [(0, va_rf (some this)), (1, .int (x1))]) (rfl) ?_
  have h := hh
  unfold wp_X2_parentAt at h
  refine zv_iload_n X 1 dX2_parentAt_0 rfl ?_
  refine zv_if_ne X (tgt := 11) dX2_parentAt_1 (by decide) h (fun h => ?_) (fun h => ?_)
  · refine zv_iload_n X 1 dX2_parentAt_11 rfl ?_
    refine zv_iconst X (v := 1) dX2_parentAt_12 rfl ?_
    refine zv_icmp_ne X (tgt := 23) dX2_parentAt_13 (by decide) h (fun h => ?_) (fun h => ?_)
    · refine zv_bipush X (v := -2) dX2_parentAt_23 rfl ?_
      exact zv_iret X rfl (by first | exact Nat.le_of_ble_eq_true rfl | omega | (dsimp only; omega)) (by first | exact Nat.le_of_ble_eq_true rfl | omega | (dsimp only; omega)) dX2_parentAt_25 ⟨h, rfl⟩
    · refine zv_aload_n X 0 dX2_parentAt_16 rfl ?_
      refine zv_getf_i X fo_q324 dX2_parentAt_17 h (fun v17 h => ?_)
      refine zv_goto X (tgt := 25) dX2_parentAt_20 (by decide) ?_
      exact zv_iret X rfl (by first | exact Nat.le_of_ble_eq_true rfl | omega | (dsimp only; omega)) (by first | exact Nat.le_of_ble_eq_true rfl | omega | (dsimp only; omega)) dX2_parentAt_25 ⟨h, rfl⟩
  · refine zv_aload_n X 0 dX2_parentAt_4 rfl ?_
    refine zv_getf_i X fo_q322 dX2_parentAt_5 h (fun v5 h => ?_)
    refine zv_goto X (tgt := 25) dX2_parentAt_8 (by decide) ?_
    exact zv_iret X rfl (by first | exact Nat.le_of_ble_eq_true rfl | omega | (dsimp only; omega)) (by first | exact Nat.le_of_ble_eq_true rfl | omega | (dsimp only; omega)) dX2_parentAt_25 ⟨h, rfl⟩
theorem md_X0_parent : yX0_parent.cls ≠ "java/lang/invoke/MethodHandle" ∧ yX0_parent.cls ≠ "java/lang/invoke/VarHandle" ∧ (parseMethodDescriptor yX0_parent.desc).map (fun d => d.parameters.length) = some 2 := by decide +kernel
theorem wk_X0_parent (l : Launch) {D : zk_G} {g : zk_M} {b0 : Nat} {post : Int32 → Prop} {this : Nat} {x1 : Int32} {x2 : Int32} {P : zk_H} (hh : wp_X0_parent post this x1 x2 P) : Met l yX0_parent (ws_ yX0_parent cX0_parent 3 (some Jvm.ClassFile.FieldType.int)) ({ frames := 4, cells := 0, slots := 0, locals := 85 } : Room) (va_Pc [.ref this, .int (x1), .int (x2)] (zk_pre D g b0 P)) (va_Qi (fun r u => post r ∧ u = P) (zk_B D b0) (zk_A b0)) 0 0 (zk_A b0) := by
  refine zk_enter "LandFolio" "parent" rfl rfl (plainFor_of_name (by decide)) [.ref this, .int (x1), .int (x2)] (Nat.le_of_ble_eq_true rfl) ?_
  intro p e s m args below meth c X
  refine zk_at0 (L' := [(0, va_rf (some this)), (1, .int (x1)), (2, .int (x2))]) (rfl) ?_
  have h := hh
  unfold wp_X0_parent at h
  refine zv_aload_n X 0 dX0_parent_0 rfl ?_
  refine zv_iload_n X 1 dX0_parent_1 rfl ?_
  refine zv_ciR ((zr_Vl X (As := [.int (x1)]) (rest := []) h (fun a h => wk_X0_isParcel l h) (zk_l1 ⟨_, rfl, cwV 1 X.hts (lw_V q1364 q1366 qs33 q102 q1367) rfl rfl rfl ⟨rfl, md_X0_isParcel⟩ ⟨Nat.le_of_ble_eq_true rfl, Nat.le_of_ble_eq_true rfl⟩⟩) rfl rfl (zk_rs (Nat.le_of_ble_eq_true rfl)) dX0_parent_2 ⟨by first | exact Nat.le_of_ble_eq_true rfl | omega | (dsimp only; omega), by first | exact Nat.le_of_ble_eq_true rfl | omega | (dsimp only; omega)⟩)) (fun v2 h => ?_)
  refine zv_if_eq X (tgt := 27) dX0_parent_5 (by decide) h (fun h => ?_) (fun h => ?_)
  · refine zv_iconst X (v := -1) dX0_parent_27 rfl ?_
    exact zv_iret X rfl (by first | exact Nat.le_of_ble_eq_true rfl | omega | (dsimp only; omega)) (by first | exact Nat.le_of_ble_eq_true rfl | omega | (dsimp only; omega)) dX0_parent_28 ⟨h, rfl⟩
  · refine zv_iload_n X 2 dX0_parent_8 rfl ?_
    refine zv_if_lt X (tgt := 27) dX0_parent_9 (by decide) h (fun h => ?_) (fun h => ?_)
    · refine zv_iconst X (v := -1) dX0_parent_27 rfl ?_
      exact zv_iret X rfl (by first | exact Nat.le_of_ble_eq_true rfl | omega | (dsimp only; omega)) (by first | exact Nat.le_of_ble_eq_true rfl | omega | (dsimp only; omega)) dX0_parent_28 ⟨h, rfl⟩
    · refine zv_aload_n X 0 dX0_parent_12 rfl ?_
      refine zv_getf_r X fo_q402 dX0_parent_13 h (fun v13 h => ?_)
      refine zv_iload_n X 1 dX0_parent_16 rfl ?_
      refine zv_cqR ((zr_Vl X (As := [.int (x1)]) (rest := []) h (fun a h => wk_X1_parcel l h) (zk_l1 ⟨_, rfl, cwV 1 X.hts (lw_V q1371 q502 q503 q103 q504) rfl rfl rfl ⟨rfl, md_X1_parcel⟩ ⟨Nat.le_of_ble_eq_true rfl, Nat.le_of_ble_eq_true rfl⟩⟩) rfl rfl (zk_rs (Nat.le_of_ble_eq_true rfl)) dX0_parent_17 ⟨by first | exact Nat.le_of_ble_eq_true rfl | omega | (dsimp only; omega), by first | exact Nat.le_of_ble_eq_true rfl | omega | (dsimp only; omega)⟩)) (fun v17 h => ?_)
      refine zv_iload_n X 2 dX0_parent_20 rfl ?_
      refine zv_ciR ((zr_Vl X (As := [.int (x2)]) (rest := []) h (fun a h => wk_X2_parentAt l h) (zk_l1 ⟨_, rfl, cwV 1 X.hts (lw_V q1725 q1726 q1727 q111 q1728) rfl rfl rfl ⟨rfl, md_X2_parentAt⟩ ⟨Nat.le_of_ble_eq_true rfl, Nat.le_of_ble_eq_true rfl⟩⟩) rfl rfl (zk_rs (Nat.le_of_ble_eq_true rfl)) dX0_parent_21 ⟨by first | exact Nat.le_of_ble_eq_true rfl | omega | (dsimp only; omega), by first | exact Nat.le_of_ble_eq_true rfl | omega | (dsimp only; omega)⟩)) (fun v21 h => ?_)
      refine zv_goto X (tgt := 28) dX0_parent_24 (by decide) ?_
      exact zv_iret X rfl (by first | exact Nat.le_of_ble_eq_true rfl | omega | (dsimp only; omega)) (by first | exact Nat.le_of_ble_eq_true rfl | omega | (dsimp only; omega)) dX0_parent_28 ⟨h, rfl⟩
theorem kj_X0_child_96 {p : Program} {l : Launch} {e : Env} {s : State} {m : MethodId} {args : Array Value} {below : List Frame} {meth : Method} {c : Code} {D : zk_G} {g : zk_M} {b0 : Nat} (X : zk_X p s m args meth c D g b0 cX0_child 6 "LandFolio" "child" (some Jvm.ClassFile.FieldType.int)) {post : Int32 → Prop} {K19 : Int32 → Int32 → Prop} {a0 : Option Nat} {a1 : Int32} {a4 : Int32} {s0 : Int32} {s1 : Int32} {P : zk_H}  (hK19 : ∀ (u3 : Int32) (u4 : Int32), K19 u3 u4 → zV p l e ({ frames := 4, cells := 0, slots := 0, locals := 85 } : Room) s m args below meth c D b0 6 (0) (0) (MQ below (va_Qi (fun r u => post r ∧ u = P) (zk_B D b0) (zk_A b0)) args s 0 0 (zk_A b0)) P 19 [(0, va_rf (a0)), (1, .int (a1)), (3, .int (u3)), (4, .int (u4))] [])  (hh : wj_X0_child_96 post K19 a0 a1 a4 s0 s1 P) : zV p l e ({ frames := 4, cells := 0, slots := 0, locals := 85 } : Room) s m args below meth c D b0 6 (0) (0) (MQ below (va_Qi (fun r u => post r ∧ u = P) (zk_B D b0) (zk_A b0)) args s 0 0 (zk_A b0)) P 96 [(0, va_rf (a0)), (1, .int (a1)), (4, .int (a4))] [.int (s0), .int (s1)] := by
  have h := hh
  unfold wj_X0_child_96 at h
  refine zv_isub X dX0_child_96 ?_
  refine zv_top_i h (fun v97 h => ?_)
  refine zv_istore_n X (i := 3) (L' := [(3, .int (v97)), (0, va_rf (a0)), (1, .int (a1)), (4, .int (a4))]) dX0_child_97 rfl (by decide) rfl ?_
  obtain ⟨v98, e98, h⟩ := zt_e h
  refine zv_iinc X (v := v98) (L' := [(4, .int (v98)), (3, .int (v97)), (0, va_rf (a0)), (1, .int (a1))]) 3 dX0_child_98 rfl e98 (by decide) rfl ?_
  refine zv_goto X (tgt := 19) dX0_child_101 (by decide) ?_
  refine zv_sub (L' := [(0, va_rf (a0)), (1, .int (a1)), (3, .int (v97)), (4, .int (v98))]) [2, 3, 1, 0] rfl ?_
  exact hK19 _ _ h
theorem kj_X0_child_85 {p : Program} {l : Launch} {e : Env} {s : State} {m : MethodId} {args : Array Value} {below : List Frame} {meth : Method} {c : Code} {D : zk_G} {g : zk_M} {b0 : Nat} (X : zk_X p s m args meth c D g b0 cX0_child 6 "LandFolio" "child" (some Jvm.ClassFile.FieldType.int)) {post : Int32 → Prop} {K19 : Int32 → Int32 → Prop} {a0 : Option Nat} {a1 : Int32} {a3 : Int32} {a4 : Int32} {a5 : Int32} {P : zk_H}  (hK19 : ∀ (u3 : Int32) (u4 : Int32), K19 u3 u4 → zV p l e ({ frames := 4, cells := 0, slots := 0, locals := 85 } : Room) s m args below meth c D b0 6 (0) (0) (MQ below (va_Qi (fun r u => post r ∧ u = P) (zk_B D b0) (zk_A b0)) args s 0 0 (zk_A b0)) P 19 [(0, va_rf (a0)), (1, .int (a1)), (3, .int (u3)), (4, .int (u4))] [])  (hh : wj_X0_child_85 post K19 a0 a1 a3 a4 a5 P) : zV p l e ({ frames := 4, cells := 0, slots := 0, locals := 85 } : Room) s m args below meth c D b0 6 (0) (0) (MQ below (va_Qi (fun r u => post r ∧ u = P) (zk_B D b0) (zk_A b0)) args s 0 0 (zk_A b0)) P 85 [(0, va_rf (a0)), (1, .int (a1)), (3, .int (a3)), (4, .int (a4)), (5, .int (a5))] [] := by
  have h := hh
  unfold wj_X0_child_85 at h
  refine zv_iload_n X 2 dX0_child_85 rfl ?_
  refine zv_iload X 4 dX0_child_86 rfl ?_
  refine zv_if_eq X (tgt := 95) dX0_child_88 (by decide) h (fun h => ?_) (fun h => ?_)
  · refine zv_iconst X (v := 0) dX0_child_95 rfl ?_
    refine zv_sub (L' := [(0, va_rf (a0)), (1, .int (a1)), (4, .int (a4))]) [0, 1, 3] rfl ?_
    exact kj_X0_child_96 X hK19 h
  · refine zv_iconst X (v := 1) dX0_child_91 rfl ?_
    refine zv_goto X (tgt := 96) dX0_child_92 (by decide) ?_
    refine zv_sub (L' := [(0, va_rf (a0)), (1, .int (a1)), (4, .int (a4))]) [0, 1, 3] rfl ?_
    exact kj_X0_child_96 X hK19 h
theorem kj_X0_child_71 {p : Program} {l : Launch} {e : Env} {s : State} {m : MethodId} {args : Array Value} {below : List Frame} {meth : Method} {c : Code} {D : zk_G} {g : zk_M} {b0 : Nat} (X : zk_X p s m args meth c D g b0 cX0_child 6 "LandFolio" "child" (some Jvm.ClassFile.FieldType.int)) {post : Int32 → Prop} {K19 : Int32 → Int32 → Prop} {a0 : Option Nat} {a1 : Int32} {a3 : Int32} {a4 : Int32} {s0 : Int32} {P : zk_H}  (hK19 : ∀ (u3 : Int32) (u4 : Int32), K19 u3 u4 → zV p l e ({ frames := 4, cells := 0, slots := 0, locals := 85 } : Room) s m args below meth c D b0 6 (0) (0) (MQ below (va_Qi (fun r u => post r ∧ u = P) (zk_B D b0) (zk_A b0)) args s 0 0 (zk_A b0)) P 19 [(0, va_rf (a0)), (1, .int (a1)), (3, .int (u3)), (4, .int (u4))] [])  (hh : wj_X0_child_71 post K19 a0 a1 a3 a4 s0 P) : zV p l e ({ frames := 4, cells := 0, slots := 0, locals := 85 } : Room) s m args below meth c D b0 6 (0) (0) (MQ below (va_Qi (fun r u => post r ∧ u = P) (zk_B D b0) (zk_A b0)) args s 0 0 (zk_A b0)) P 71 [(0, va_rf (a0)), (1, .int (a1)), (3, .int (a3)), (4, .int (a4))] [.int (s0)] := by
  have h := hh
  unfold wj_X0_child_71 at h
  refine zv_istore X (L' := [(5, .int (s0)), (0, va_rf (a0)), (1, .int (a1)), (3, .int (a3)), (4, .int (a4))]) dX0_child_71 (by decide) rfl ?_
  refine zv_iload X 0 dX0_child_73 rfl ?_
  refine zv_if_eq X (tgt := 85) dX0_child_75 (by decide) h (fun h => ?_) (fun h => ?_)
  · refine zv_sub (L' := [(0, va_rf (a0)), (1, .int (a1)), (3, .int (a3)), (4, .int (a4)), (5, .int (s0))]) [1, 2, 3, 4, 0] rfl ?_
    exact kj_X0_child_85 X hK19 h
  · refine zv_iload_n X 3 dX0_child_78 rfl ?_
    refine zv_if_ne X (tgt := 85) dX0_child_79 (by decide) h (fun h => ?_) (fun h => ?_)
    · refine zv_sub (L' := [(0, va_rf (a0)), (1, .int (a1)), (3, .int (a3)), (4, .int (a4)), (5, .int (s0))]) [1, 2, 3, 4, 0] rfl ?_
      exact kj_X0_child_85 X hK19 h
    · refine zv_iload X 4 dX0_child_82 rfl ?_
      exact zv_iret X rfl (by first | exact Nat.le_of_ble_eq_true rfl | omega | (dsimp only; omega)) (by first | exact Nat.le_of_ble_eq_true rfl | omega | (dsimp only; omega)) dX0_child_84 ⟨h, rfl⟩
theorem kj_X0_child_66 {p : Program} {l : Launch} {e : Env} {s : State} {m : MethodId} {args : Array Value} {below : List Frame} {meth : Method} {c : Code} {D : zk_G} {g : zk_M} {b0 : Nat} (X : zk_X p s m args meth c D g b0 cX0_child 6 "LandFolio" "child" (some Jvm.ClassFile.FieldType.int)) {post : Int32 → Prop} {K19 : Int32 → Int32 → Prop} {a0 : Option Nat} {a1 : Int32} {a3 : Int32} {a4 : Int32} {P : zk_H}  (hK19 : ∀ (u3 : Int32) (u4 : Int32), K19 u3 u4 → zV p l e ({ frames := 4, cells := 0, slots := 0, locals := 85 } : Room) s m args below meth c D b0 6 (0) (0) (MQ below (va_Qi (fun r u => post r ∧ u = P) (zk_B D b0) (zk_A b0)) args s 0 0 (zk_A b0)) P 19 [(0, va_rf (a0)), (1, .int (a1)), (3, .int (u3)), (4, .int (u4))] [])  (hh : wj_X0_child_66 post K19 a0 a1 a3 a4 P) : zV p l e ({ frames := 4, cells := 0, slots := 0, locals := 85 } : Room) s m args below meth c D b0 6 (0) (0) (MQ below (va_Qi (fun r u => post r ∧ u = P) (zk_B D b0) (zk_A b0)) args s 0 0 (zk_A b0)) P 66 [(0, va_rf (a0)), (1, .int (a1)), (3, .int (a3)), (4, .int (a4))] [] := by
  have h := hh
  unfold wj_X0_child_66 at h
  refine zv_iconst X (v := 1) dX0_child_66 rfl ?_
  refine zv_goto X (tgt := 71) dX0_child_67 (by decide) ?_
  exact kj_X0_child_71 X hK19 h
theorem kb_X0_child_19 {p : Program} {l : Launch} {e : Env} {s : State} {m : MethodId} {args : Array Value} {below : List Frame} {meth : Method} {c : Code} {D : zk_G} {g : zk_M} {b0 : Nat} (X : zk_X p s m args meth c D g b0 cX0_child 6 "LandFolio" "child" (some Jvm.ClassFile.FieldType.int)) {post : Int32 → Prop}  {K19 : Int32 → Int32 → Prop} {a0 : Option Nat} {a1 : Int32} {a3 : Int32} {a4 : Int32} {P : zk_H}   (hK19 : ∀ (u3 : Int32) (u4 : Int32), K19 u3 u4 → zV p l e ({ frames := 4, cells := 0, slots := 0, locals := 85 } : Room) s m args below meth c D b0 6 (0) (0) (MQ below (va_Qi (fun r u => post r ∧ u = P) (zk_B D b0) (zk_A b0)) args s 0 0 (zk_A b0)) P 19 [(0, va_rf (a0)), (1, .int (a1)), (3, .int (u3)), (4, .int (u4))] [])  (hh : wb_X0_child_19 post a0 a1 P K19 a3 a4) : zV p l e ({ frames := 4, cells := 0, slots := 0, locals := 85 } : Room) s m args below meth c D b0 6 (0) (0) (MQ below (va_Qi (fun r u => post r ∧ u = P) (zk_B D b0) (zk_A b0)) args s 0 0 (zk_A b0)) P 19 [(0, va_rf (a0)), (1, .int (a1)), (3, .int (a3)), (4, .int (a4))] [] := by
  have h := hh
  unfold wb_X0_child_19 at h
  refine zv_iload X 3 dX0_child_19 rfl ?_
  refine zv_aload_n X 0 dX0_child_21 rfl ?_
  refine zv_getf_r X fo_q402 dX0_child_22 h (fun v22 h => ?_)
  refine zv_getf_r X fo_q195 dX0_child_25 h (fun v25 h => ?_)
  refine zv_ciR ((zr_Vl X (As := []) (rest := [.int (a4)]) h (fun a h => wk_J2_size l h) (zk_l1 ⟨_, rfl, cwV 0 X.hts (lw_V q672 q362 q363 q106 q364) rfl rfl rfl ⟨rfl, md_J2_size⟩ ⟨Nat.le_of_ble_eq_true rfl, Nat.le_of_ble_eq_true rfl⟩⟩) rfl rfl (zk_rs (Nat.le_of_ble_eq_true rfl)) dX0_child_28 ⟨by first | exact Nat.le_of_ble_eq_true rfl | omega | (dsimp only; omega), by first | exact Nat.le_of_ble_eq_true rfl | omega | (dsimp only; omega)⟩)) (fun v28 h => ?_)
  refine zv_icmp_ge X (tgt := 104) dX0_child_31 (by decide) h (fun h => ?_) (fun h => ?_)
  · refine zv_bipush X (v := -2) dX0_child_104 rfl ?_
    exact zv_iret X rfl (by first | exact Nat.le_of_ble_eq_true rfl | omega | (dsimp only; omega)) (by first | exact Nat.le_of_ble_eq_true rfl | omega | (dsimp only; omega)) dX0_child_106 ⟨h, rfl⟩
  · refine zv_aload_n X 0 dX0_child_34 rfl ?_
    refine zv_getf_r X fo_q402 dX0_child_35 h (fun v35 h => ?_)
    refine zv_iload X 3 dX0_child_38 rfl ?_
    refine zv_cqR ((zr_Vl X (As := [.int (a4)]) (rest := []) h (fun a h => wk_X1_parcel l h) (zk_l1 ⟨_, rfl, cwV 1 X.hts (lw_V q1371 q502 q503 q103 q504) rfl rfl rfl ⟨rfl, md_X1_parcel⟩ ⟨Nat.le_of_ble_eq_true rfl, Nat.le_of_ble_eq_true rfl⟩⟩) rfl rfl (zk_rs (Nat.le_of_ble_eq_true rfl)) dX0_child_40 ⟨by first | exact Nat.le_of_ble_eq_true rfl | omega | (dsimp only; omega), by first | exact Nat.le_of_ble_eq_true rfl | omega | (dsimp only; omega)⟩)) (fun v40 h => ?_)
    refine zv_getf_i X fo_q323 dX0_child_43 h (fun v43 h => ?_)
    refine zv_iload_n X 1 dX0_child_46 rfl ?_
    refine zv_icmp_eq X (tgt := 66) dX0_child_47 (by decide) h (fun h => ?_) (fun h => ?_)
    · exact kj_X0_child_66 X hK19 h
    · refine zv_aload_n X 0 dX0_child_50 rfl ?_
      refine zv_getf_r X fo_q402 dX0_child_51 h (fun v51 h => ?_)
      refine zv_iload X 3 dX0_child_54 rfl ?_
      refine zv_cqR ((zr_Vl X (As := [.int (a4)]) (rest := []) h (fun a h => wk_X1_parcel l h) (zk_l1 ⟨_, rfl, cwV 1 X.hts (lw_V q1371 q502 q503 q103 q504) rfl rfl rfl ⟨rfl, md_X1_parcel⟩ ⟨Nat.le_of_ble_eq_true rfl, Nat.le_of_ble_eq_true rfl⟩⟩) rfl rfl (zk_rs (Nat.le_of_ble_eq_true rfl)) dX0_child_56 ⟨by first | exact Nat.le_of_ble_eq_true rfl | omega | (dsimp only; omega), by first | exact Nat.le_of_ble_eq_true rfl | omega | (dsimp only; omega)⟩)) (fun v56 h => ?_)
      refine zv_getf_i X fo_q325 dX0_child_59 h (fun v59 h => ?_)
      refine zv_iload_n X 1 dX0_child_62 rfl ?_
      refine zv_icmp_ne X (tgt := 70) dX0_child_63 (by decide) h (fun h => ?_) (fun h => ?_)
      · refine zv_iconst X (v := 0) dX0_child_70 rfl ?_
        exact kj_X0_child_71 X hK19 h
      · exact kj_X0_child_66 X hK19 h
theorem kl_X0_child_19 {p : Program} {l : Launch} {e : Env} {s : State} {m : MethodId} {args : Array Value} {below : List Frame} {meth : Method} {c : Code} {D : zk_G} {g : zk_M} {b0 : Nat} (X : zk_X p s m args meth c D g b0 cX0_child 6 "LandFolio" "child" (some Jvm.ClassFile.FieldType.int)) {post : Int32 → Prop}  {a0 : Option Nat} {a1 : Int32} {P : zk_H}   : ∀ (n : Nat) (a3 : Int32) (a4 : Int32), wl_X0_child_19 post a0 a1 P n a3 a4 → zV p l e ({ frames := 4, cells := 0, slots := 0, locals := 85 } : Room) s m args below meth c D b0 6 (0) (0) (MQ below (va_Qi (fun r u => post r ∧ u = P) (zk_B D b0) (zk_A b0)) args s 0 0 (zk_A b0)) P 19 [(0, va_rf (a0)), (1, .int (a1)), (3, .int (a3)), (4, .int (a4))] [] := by
  intro n
  induction n with
  | zero => intro _ _ h; exact h.elim
  | succ n ih =>
    intro a3 a4 h
    exact kb_X0_child_19 X  (fun u0 u1 h => ih _ _ h)  h
theorem md_X0_child : yX0_child.cls ≠ "java/lang/invoke/MethodHandle" ∧ yX0_child.cls ≠ "java/lang/invoke/VarHandle" ∧ (parseMethodDescriptor yX0_child.desc).map (fun d => d.parameters.length) = some 2 := by decide +kernel
theorem wk_X0_child (l : Launch) {D : zk_G} {g : zk_M} {b0 : Nat} {post : Int32 → Prop} {this : Nat} {x1 : Int32} {x2 : Int32} {P : zk_H} (hh : wp_X0_child post this x1 x2 P) : Met l yX0_child (ws_ yX0_child cX0_child 6 (some Jvm.ClassFile.FieldType.int)) ({ frames := 4, cells := 0, slots := 0, locals := 85 } : Room) (va_Pc [.ref this, .int (x1), .int (x2)] (zk_pre D g b0 P)) (va_Qi (fun r u => post r ∧ u = P) (zk_B D b0) (zk_A b0)) 0 0 (zk_A b0) := by
  refine zk_enter "LandFolio" "child" rfl rfl (plainFor_of_name (by decide)) [.ref this, .int (x1), .int (x2)] (Nat.le_of_ble_eq_true rfl) ?_
  intro p e s m args below meth c X
  refine zk_at0 (L' := [(0, va_rf (some this)), (1, .int (x1)), (2, .int (x2))]) (rfl) ?_
  have h := hh
  unfold wp_X0_child at h
  refine zv_aload_n X 0 dX0_child_0 rfl ?_
  refine zv_iload_n X 1 dX0_child_1 rfl ?_
  refine zv_ciR ((zr_Vl X (As := [.int (x1)]) (rest := []) h (fun a h => wk_X0_isParcel l h) (zk_l1 ⟨_, rfl, cwV 1 X.hts (lw_V q1364 q1366 qs33 q102 q1367) rfl rfl rfl ⟨rfl, md_X0_isParcel⟩ ⟨Nat.le_of_ble_eq_true rfl, Nat.le_of_ble_eq_true rfl⟩⟩) rfl rfl (zk_rs (Nat.le_of_ble_eq_true rfl)) dX0_child_2 ⟨by first | exact Nat.le_of_ble_eq_true rfl | omega | (dsimp only; omega), by first | exact Nat.le_of_ble_eq_true rfl | omega | (dsimp only; omega)⟩)) (fun v2 h => ?_)
  refine zv_if_eq X (tgt := 12) dX0_child_5 (by decide) h (fun h => ?_) (fun h => ?_)
  · refine zv_iconst X (v := -1) dX0_child_12 rfl ?_
    exact zv_iret X rfl (by first | exact Nat.le_of_ble_eq_true rfl | omega | (dsimp only; omega)) (by first | exact Nat.le_of_ble_eq_true rfl | omega | (dsimp only; omega)) dX0_child_13 ⟨h, rfl⟩
  · refine zv_iload_n X 2 dX0_child_8 rfl ?_
    refine zv_if_ge X (tgt := 14) dX0_child_9 (by decide) h (fun h => ?_) (fun h => ?_)
    · refine zv_iload_n X 2 dX0_child_14 rfl ?_
      refine zv_istore_n X (i := 3) (L' := [(3, .int (x2)), (0, va_rf (some this)), (1, .int (x1)), (2, .int (x2))]) dX0_child_15 rfl (by decide) rfl ?_
      refine zv_iconst X (v := 0) dX0_child_16 rfl ?_
      refine zv_istore X (L' := [(4, .int (0)), (3, .int (x2)), (0, va_rf (some this)), (1, .int (x1)), (2, .int (x2))]) dX0_child_17 (by decide) rfl ?_
      refine zv_sub (L' := [(0, va_rf (some this)), (1, .int (x1)), (3, .int (x2)), (4, .int (0))]) [2, 3, 1, 0] rfl ?_
      obtain ⟨n17, h⟩ := h
      exact kl_X0_child_19 X  n17 _ _ h
    · refine zv_iconst X (v := -1) dX0_child_12 rfl ?_
      exact zv_iret X rfl (by first | exact Nat.le_of_ble_eq_true rfl | omega | (dsimp only; omega)) (by first | exact Nat.le_of_ble_eq_true rfl | omega | (dsimp only; omega)) dX0_child_13 ⟨h, rfl⟩
theorem kj_X0_laysSteps_92 {p : Program} {l : Launch} {e : Env} {s : State} {m : MethodId} {args : Array Value} {below : List Frame} {meth : Method} {c : Code} {D : zk_G} {g : zk_M} {b0 : Nat} (X : zk_X p s m args meth c D g b0 cX0_laysSteps 6 "LandFolio" "laysSteps" none) {post : zk_H → Prop} {K2 : Int32 → zk_H → Prop} {a0 : Option Nat} {a1 : Int32} {a2 : Int32} {s0 : Int32} {s1 : Int32} {s2 : Option Nat} {P : zk_H}  (hK2 : ∀ (u2 : Int32) (U : zk_H), K2 u2 U → zV p l e ({ frames := 4, cells := 0, slots := 0, locals := 85 } : Room) s m args below meth c D b0 6 (0) (0) (MQ below (va_Qv post (zk_B D b0) (zk_A b0)) args s 0 0 (zk_A b0)) U 2 [(0, va_rf (a0)), (1, .int (a1)), (2, .int (u2))] [])  (hh : wj_X0_laysSteps_92 post K2 a0 a1 a2 s0 s1 s2 P) : zV p l e ({ frames := 4, cells := 0, slots := 0, locals := 85 } : Room) s m args below meth c D b0 6 (0) (0) (MQ below (va_Qv post (zk_B D b0) (zk_A b0)) args s 0 0 (zk_A b0)) P 92 [(0, va_rf (a0)), (1, .int (a1)), (2, .int (a2))] [.int (s0), .int (s1), va_rf (s2)] := by
  have h := hh
  unfold wj_X0_laysSteps_92 at h
  refine zv_iast X dX0_laysSteps_92 h (fun P92 h => ?_)
  obtain ⟨v93, e93, h⟩ := zt_e h
  refine zv_iinc X (v := v93) (L' := [(2, .int (v93)), (0, va_rf (a0)), (1, .int (a1))]) 2 dX0_laysSteps_93 rfl e93 (by decide) rfl ?_
  refine zv_goto X (tgt := 2) dX0_laysSteps_96 (by decide) ?_
  refine zv_sub (L' := [(0, va_rf (a0)), (1, .int (a1)), (2, .int (v93))]) [1, 2, 0] rfl ?_
  exact hK2 _ _ h
theorem kj_X0_laysSteps_65 {p : Program} {l : Launch} {e : Env} {s : State} {m : MethodId} {args : Array Value} {below : List Frame} {meth : Method} {c : Code} {D : zk_G} {g : zk_M} {b0 : Nat} (X : zk_X p s m args meth c D g b0 cX0_laysSteps 6 "LandFolio" "laysSteps" none) {post : zk_H → Prop} {K2 : Int32 → zk_H → Prop} {K22 : Int32 → Int32 → Prop} {a0 : Option Nat} {a1 : Int32} {a2 : Int32} {a4 : Int32} {s0 : Int32} {P : zk_H}  (hK2 : ∀ (u2 : Int32) (U : zk_H), K2 u2 U → zV p l e ({ frames := 4, cells := 0, slots := 0, locals := 85 } : Room) s m args below meth c D b0 6 (0) (0) (MQ below (va_Qv post (zk_B D b0) (zk_A b0)) args s 0 0 (zk_A b0)) U 2 [(0, va_rf (a0)), (1, .int (a1)), (2, .int (u2))] []) (hK22 : ∀ (u3 : Int32) (u4 : Int32), K22 u3 u4 → zV p l e ({ frames := 4, cells := 0, slots := 0, locals := 85 } : Room) s m args below meth c D b0 6 (0) (0) (MQ below (va_Qv post (zk_B D b0) (zk_A b0)) args s 0 0 (zk_A b0)) P 22 [(0, va_rf (a0)), (1, .int (a1)), (2, .int (a2)), (3, .int (u3)), (4, .int (u4))] [])  (hh : wj_X0_laysSteps_65 post K2 K22 a0 a1 a2 a4 s0 P) : zV p l e ({ frames := 4, cells := 0, slots := 0, locals := 85 } : Room) s m args below meth c D b0 6 (0) (0) (MQ below (va_Qv post (zk_B D b0) (zk_A b0)) args s 0 0 (zk_A b0)) P 65 [(0, va_rf (a0)), (1, .int (a1)), (2, .int (a2)), (4, .int (a4))] [.int (s0)] := by
  have h := hh
  unfold wj_X0_laysSteps_65 at h
  refine zv_istore_n X (i := 3) (L' := [(3, .int (s0)), (0, va_rf (a0)), (1, .int (a1)), (2, .int (a2)), (4, .int (a4))]) dX0_laysSteps_65 rfl (by decide) rfl ?_
  obtain ⟨v66, e66, h⟩ := zt_e h
  refine zv_iinc X (v := v66) (L' := [(4, .int (v66)), (3, .int (s0)), (0, va_rf (a0)), (1, .int (a1)), (2, .int (a2))]) 4 dX0_laysSteps_66 rfl e66 (by decide) rfl ?_
  refine zv_goto X (tgt := 22) dX0_laysSteps_69 (by decide) ?_
  refine zv_sub (L' := [(0, va_rf (a0)), (1, .int (a1)), (2, .int (a2)), (3, .int (s0)), (4, .int (v66))]) [2, 3, 4, 1, 0] rfl ?_
  exact hK22 _ _ h
theorem kb_X0_laysSteps_22 {p : Program} {l : Launch} {e : Env} {s : State} {m : MethodId} {args : Array Value} {below : List Frame} {meth : Method} {c : Code} {D : zk_G} {g : zk_M} {b0 : Nat} (X : zk_X p s m args meth c D g b0 cX0_laysSteps 6 "LandFolio" "laysSteps" none) {post : zk_H → Prop} {K2 : Int32 → zk_H → Prop} {K22 : Int32 → Int32 → Prop} {a0 : Option Nat} {a1 : Int32} {a2 : Int32} {a3 : Int32} {a4 : Int32} {P : zk_H}  (hK2 : ∀ (u2 : Int32) (U : zk_H), K2 u2 U → zV p l e ({ frames := 4, cells := 0, slots := 0, locals := 85 } : Room) s m args below meth c D b0 6 (0) (0) (MQ below (va_Qv post (zk_B D b0) (zk_A b0)) args s 0 0 (zk_A b0)) U 2 [(0, va_rf (a0)), (1, .int (a1)), (2, .int (u2))] []) (hK22 : ∀ (u3 : Int32) (u4 : Int32), K22 u3 u4 → zV p l e ({ frames := 4, cells := 0, slots := 0, locals := 85 } : Room) s m args below meth c D b0 6 (0) (0) (MQ below (va_Qv post (zk_B D b0) (zk_A b0)) args s 0 0 (zk_A b0)) P 22 [(0, va_rf (a0)), (1, .int (a1)), (2, .int (a2)), (3, .int (u3)), (4, .int (u4))] [])  (hh : wb_X0_laysSteps_22 post K2 a0 a1 a2 P K22 a3 a4) : zV p l e ({ frames := 4, cells := 0, slots := 0, locals := 85 } : Room) s m args below meth c D b0 6 (0) (0) (MQ below (va_Qv post (zk_B D b0) (zk_A b0)) args s 0 0 (zk_A b0)) P 22 [(0, va_rf (a0)), (1, .int (a1)), (2, .int (a2)), (3, .int (a3)), (4, .int (a4))] [] := by
  have h := hh
  unfold wb_X0_laysSteps_22 at h
  refine zv_iload X 4 dX0_laysSteps_22 rfl ?_
  refine zv_iconst X (v := 2) dX0_laysSteps_24 rfl ?_
  refine zv_icmp_ge X (tgt := 72) dX0_laysSteps_25 (by decide) h (fun h => ?_) (fun h => ?_)
  · refine zv_aload_n X 0 dX0_laysSteps_72 rfl ?_
    refine zv_getf_r X fo_q410 dX0_laysSteps_73 h (fun v73 h => ?_)
    refine zv_iload_n X 2 dX0_laysSteps_76 rfl ?_
    refine zv_iload_n X 2 dX0_laysSteps_77 rfl ?_
    refine zv_iload_n X 1 dX0_laysSteps_78 rfl ?_
    refine zv_icmp_ne X (tgt := 86) dX0_laysSteps_79 (by decide) h (fun h => ?_) (fun h => ?_)
    · refine zv_bipush X (v := 40) dX0_laysSteps_86 rfl ?_
      refine zv_iload_n X 3 dX0_laysSteps_88 rfl ?_
      refine zv_mmin X q1455 ⟨by first | decide | (dsimp only; decide), by first | decide | (dsimp only; decide)⟩ (zk_rs (Nat.le_of_ble_eq_true rfl)) (by first | exact Nat.le_of_ble_eq_true rfl | dsimp only; omega) (by first | exact Nat.le_of_ble_eq_true rfl | dsimp only; omega) dX0_laysSteps_89 ?_
      refine zv_sub (L' := [(0, va_rf (a0)), (1, .int (a1)), (2, .int (a2))]) [0, 1, 2] rfl ?_
      exact kj_X0_laysSteps_92 X hK2 h
    · refine zv_iconst X (v := 0) dX0_laysSteps_82 rfl ?_
      refine zv_goto X (tgt := 92) dX0_laysSteps_83 (by decide) ?_
      refine zv_sub (L' := [(0, va_rf (a0)), (1, .int (a1)), (2, .int (a2))]) [0, 1, 2] rfl ?_
      exact kj_X0_laysSteps_92 X hK2 h
  · refine zv_aload_n X 0 dX0_laysSteps_28 rfl ?_
    refine zv_getf_r X fo_q402 dX0_laysSteps_29 h (fun v29 h => ?_)
    refine zv_iload_n X 2 dX0_laysSteps_32 rfl ?_
    refine zv_cqR ((zr_Vl X (As := [.int (a2)]) (rest := []) h (fun a h => wk_X1_parcel l h) (zk_l1 ⟨_, rfl, cwV 1 X.hts (lw_V q1371 q502 q503 q103 q504) rfl rfl rfl ⟨rfl, md_X1_parcel⟩ ⟨Nat.le_of_ble_eq_true rfl, Nat.le_of_ble_eq_true rfl⟩⟩) rfl rfl (zk_rs (Nat.le_of_ble_eq_true rfl)) dX0_laysSteps_33 ⟨by first | exact Nat.le_of_ble_eq_true rfl | omega | (dsimp only; omega), by first | exact Nat.le_of_ble_eq_true rfl | omega | (dsimp only; omega)⟩)) (fun v33 h => ?_)
    refine zv_iload X 4 dX0_laysSteps_36 rfl ?_
    refine zv_ciR ((zr_Vl X (As := [.int (a4)]) (rest := []) h (fun a h => wk_X2_parentAt l h) (zk_l1 ⟨_, rfl, cwV 1 X.hts (lw_V q1725 q1726 q1727 q111 q1728) rfl rfl rfl ⟨rfl, md_X2_parentAt⟩ ⟨Nat.le_of_ble_eq_true rfl, Nat.le_of_ble_eq_true rfl⟩⟩) rfl rfl (zk_rs (Nat.le_of_ble_eq_true rfl)) dX0_laysSteps_38 ⟨by first | exact Nat.le_of_ble_eq_true rfl | omega | (dsimp only; omega), by first | exact Nat.le_of_ble_eq_true rfl | omega | (dsimp only; omega)⟩)) (fun v38 h => ?_)
    refine zv_istore X (L' := [(5, .int (v38)), (0, va_rf (a0)), (1, .int (a1)), (2, .int (a2)), (3, .int (a3)), (4, .int (a4))]) dX0_laysSteps_41 (by decide) rfl ?_
    refine zv_iload X 0 dX0_laysSteps_43 rfl ?_
    refine zv_if_ge X (tgt := 52) dX0_laysSteps_45 (by decide) h (fun h => ?_) (fun h => ?_)
    · refine zv_iload_n X 4 dX0_laysSteps_52 rfl ?_
      refine zv_aload_n X 1 dX0_laysSteps_53 rfl ?_
      refine zv_getf_r X fo_q410 dX0_laysSteps_54 h (fun v54 h => ?_)
      refine zv_iload X 0 dX0_laysSteps_57 rfl ?_
      refine zv_iald X dX0_laysSteps_59 h (fun v59 h => ?_)
      refine zv_iconst X (v := 1) dX0_laysSteps_60 rfl ?_
      refine zv_iadd X dX0_laysSteps_61 ?_
      refine zv_mmin X q1455 ⟨by first | decide | (dsimp only; decide), by first | decide | (dsimp only; decide)⟩ (zk_rs (Nat.le_of_ble_eq_true rfl)) (by first | exact Nat.le_of_ble_eq_true rfl | dsimp only; omega) (by first | exact Nat.le_of_ble_eq_true rfl | dsimp only; omega) dX0_laysSteps_62 ?_
      refine zv_sub (L' := [(0, va_rf (a0)), (1, .int (a1)), (2, .int (a2)), (4, .int (a4))]) [1, 2, 3, 5] rfl ?_
      exact kj_X0_laysSteps_65 X hK2 hK22 h
    · refine zv_iload_n X 4 dX0_laysSteps_48 rfl ?_
      refine zv_goto X (tgt := 65) dX0_laysSteps_49 (by decide) ?_
      refine zv_sub (L' := [(0, va_rf (a0)), (1, .int (a1)), (2, .int (a2)), (4, .int (a4))]) [1, 2, 3, 5] rfl ?_
      exact kj_X0_laysSteps_65 X hK2 hK22 h
theorem kl_X0_laysSteps_22 {p : Program} {l : Launch} {e : Env} {s : State} {m : MethodId} {args : Array Value} {below : List Frame} {meth : Method} {c : Code} {D : zk_G} {g : zk_M} {b0 : Nat} (X : zk_X p s m args meth c D g b0 cX0_laysSteps 6 "LandFolio" "laysSteps" none) {post : zk_H → Prop} {K2 : Int32 → zk_H → Prop} {a0 : Option Nat} {a1 : Int32} {a2 : Int32} {P : zk_H} (hK2 : ∀ (u2 : Int32) (U : zk_H), K2 u2 U → zV p l e ({ frames := 4, cells := 0, slots := 0, locals := 85 } : Room) s m args below meth c D b0 6 (0) (0) (MQ below (va_Qv post (zk_B D b0) (zk_A b0)) args s 0 0 (zk_A b0)) U 2 [(0, va_rf (a0)), (1, .int (a1)), (2, .int (u2))] [])  : ∀ (n : Nat) (a3 : Int32) (a4 : Int32), wl_X0_laysSteps_22 post K2 a0 a1 a2 P n a3 a4 → zV p l e ({ frames := 4, cells := 0, slots := 0, locals := 85 } : Room) s m args below meth c D b0 6 (0) (0) (MQ below (va_Qv post (zk_B D b0) (zk_A b0)) args s 0 0 (zk_A b0)) P 22 [(0, va_rf (a0)), (1, .int (a1)), (2, .int (a2)), (3, .int (a3)), (4, .int (a4))] [] := by
  intro n
  induction n with
  | zero => intro _ _ h; exact h.elim
  | succ n ih =>
    intro a3 a4 h
    exact kb_X0_laysSteps_22 X hK2 (fun u0 u1 h => ih _ _ h)  h
theorem kb_X0_laysSteps_2 {p : Program} {l : Launch} {e : Env} {s : State} {m : MethodId} {args : Array Value} {below : List Frame} {meth : Method} {c : Code} {D : zk_G} {g : zk_M} {b0 : Nat} (X : zk_X p s m args meth c D g b0 cX0_laysSteps 6 "LandFolio" "laysSteps" none) {post : zk_H → Prop}  {K2 : Int32 → zk_H → Prop} {a0 : Option Nat} {a1 : Int32} {a2 : Int32} {P : zk_H}   (hK2 : ∀ (u2 : Int32) (U : zk_H), K2 u2 U → zV p l e ({ frames := 4, cells := 0, slots := 0, locals := 85 } : Room) s m args below meth c D b0 6 (0) (0) (MQ below (va_Qv post (zk_B D b0) (zk_A b0)) args s 0 0 (zk_A b0)) U 2 [(0, va_rf (a0)), (1, .int (a1)), (2, .int (u2))] [])  (hh : wb_X0_laysSteps_2 post a0 a1 K2 a2 P) : zV p l e ({ frames := 4, cells := 0, slots := 0, locals := 85 } : Room) s m args below meth c D b0 6 (0) (0) (MQ below (va_Qv post (zk_B D b0) (zk_A b0)) args s 0 0 (zk_A b0)) P 2 [(0, va_rf (a0)), (1, .int (a1)), (2, .int (a2))] [] := by
  have h := hh
  unfold wb_X0_laysSteps_2 at h
  refine zv_iload_n X 2 dX0_laysSteps_2 rfl ?_
  refine zv_aload_n X 0 dX0_laysSteps_3 rfl ?_
  refine zv_getf_r X fo_q402 dX0_laysSteps_4 h (fun v4 h => ?_)
  refine zv_getf_r X fo_q195 dX0_laysSteps_7 h (fun v7 h => ?_)
  refine zv_ciR ((zr_Vl X (As := []) (rest := [.int (a2)]) h (fun a h => wk_J2_size l h) (zk_l1 ⟨_, rfl, cwV 0 X.hts (lw_V q672 q362 q363 q106 q364) rfl rfl rfl ⟨rfl, md_J2_size⟩ ⟨Nat.le_of_ble_eq_true rfl, Nat.le_of_ble_eq_true rfl⟩⟩) rfl rfl (zk_rs (Nat.le_of_ble_eq_true rfl)) dX0_laysSteps_10 ⟨by first | exact Nat.le_of_ble_eq_true rfl | omega | (dsimp only; omega), by first | exact Nat.le_of_ble_eq_true rfl | omega | (dsimp only; omega)⟩)) (fun v10 h => ?_)
  refine zv_icmp_ge X (tgt := 99) dX0_laysSteps_13 (by decide) h (fun h => ?_) (fun h => ?_)
  · exact zv_vret X rfl (by first | exact Nat.le_of_ble_eq_true rfl | omega | (dsimp only; omega)) (by first | exact Nat.le_of_ble_eq_true rfl | omega | (dsimp only; omega)) dX0_laysSteps_99 h
  · refine zv_bipush X (v := 40) dX0_laysSteps_16 rfl ?_
    refine zv_istore_n X (i := 3) (L' := [(3, .int (40)), (0, va_rf (a0)), (1, .int (a1)), (2, .int (a2))]) dX0_laysSteps_18 rfl (by decide) rfl ?_
    refine zv_iconst X (v := 0) dX0_laysSteps_19 rfl ?_
    refine zv_istore X (L' := [(4, .int (0)), (3, .int (40)), (0, va_rf (a0)), (1, .int (a1)), (2, .int (a2))]) dX0_laysSteps_20 (by decide) rfl ?_
    refine zv_sub (L' := [(0, va_rf (a0)), (1, .int (a1)), (2, .int (a2)), (3, .int (40)), (4, .int (0))]) [2, 3, 4, 1, 0] rfl ?_
    obtain ⟨n20, h⟩ := h
    exact kl_X0_laysSteps_22 X hK2 n20 _ _ h
theorem kl_X0_laysSteps_2 {p : Program} {l : Launch} {e : Env} {s : State} {m : MethodId} {args : Array Value} {below : List Frame} {meth : Method} {c : Code} {D : zk_G} {g : zk_M} {b0 : Nat} (X : zk_X p s m args meth c D g b0 cX0_laysSteps 6 "LandFolio" "laysSteps" none) {post : zk_H → Prop}  {a0 : Option Nat} {a1 : Int32}   : ∀ (n : Nat) (a2 : Int32) (P : zk_H), wl_X0_laysSteps_2 post a0 a1 n a2 P → zV p l e ({ frames := 4, cells := 0, slots := 0, locals := 85 } : Room) s m args below meth c D b0 6 (0) (0) (MQ below (va_Qv post (zk_B D b0) (zk_A b0)) args s 0 0 (zk_A b0)) P 2 [(0, va_rf (a0)), (1, .int (a1)), (2, .int (a2))] [] := by
  intro n
  induction n with
  | zero => intro _ _ h; exact h.elim
  | succ n ih =>
    intro a2 P h
    exact kb_X0_laysSteps_2 X  (fun u0 u1 h => ih _ _ h)  h
theorem md_X0_laysSteps : yX0_laysSteps.cls ≠ "java/lang/invoke/MethodHandle" ∧ yX0_laysSteps.cls ≠ "java/lang/invoke/VarHandle" ∧ (parseMethodDescriptor yX0_laysSteps.desc).map (fun d => d.parameters.length) = some 1 := by decide +kernel
theorem wk_X0_laysSteps (l : Launch) {D : zk_G} {g : zk_M} {b0 : Nat} {post : zk_H → Prop} {this : Nat} {x1 : Int32} {P : zk_H} (hh : wp_X0_laysSteps post this x1 P) : Met l yX0_laysSteps (ws_ yX0_laysSteps cX0_laysSteps 6 none) ({ frames := 4, cells := 0, slots := 0, locals := 85 } : Room) (va_Pc [.ref this, .int (x1)] (zk_pre D g b0 P)) (va_Qv post (zk_B D b0) (zk_A b0)) 0 0 (zk_A b0) := by
  refine zk_enter "LandFolio" "laysSteps" rfl rfl (plainFor_of_name (by decide)) [.ref this, .int (x1)] (Nat.le_of_ble_eq_true rfl) ?_
  intro p e s m args below meth c X
  refine zk_at0 (L' := [(0, va_rf (some this)), (1, .int (x1))]) (rfl) ?_
  have h := hh
  unfold wp_X0_laysSteps at h
  refine zv_iconst X (v := 0) dX0_laysSteps_0 rfl ?_
  refine zv_istore_n X (i := 2) (L' := [(2, .int (0)), (0, va_rf (some this)), (1, .int (x1))]) dX0_laysSteps_1 rfl (by decide) rfl ?_
  refine zv_sub (L' := [(0, va_rf (some this)), (1, .int (x1)), (2, .int (0))]) [1, 2, 0] rfl ?_
  obtain ⟨n1, h⟩ := h
  exact kl_X0_laysSteps_2 X  n1 _ _ h
theorem md_X0_steps : yX0_steps.cls ≠ "java/lang/invoke/MethodHandle" ∧ yX0_steps.cls ≠ "java/lang/invoke/VarHandle" ∧ (parseMethodDescriptor yX0_steps.desc).map (fun d => d.parameters.length) = some 2 := by decide +kernel
theorem wk_X0_steps (l : Launch) {D : zk_G} {g : zk_M} {b0 : Nat} {post : Int32 → zk_H → Prop} {this : Nat} {x1 : Int32} {x2 : Int32} {P : zk_H} (hh : wp_X0_steps post this x1 x2 P) : Met l yX0_steps (ws_ yX0_steps cX0_steps 3 (some Jvm.ClassFile.FieldType.int)) ({ frames := 5, cells := 0, slots := 0, locals := 110 } : Room) (va_Pc [.ref this, .int (x1), .int (x2)] (zk_pre D g b0 P)) (va_Qi post (zk_B D b0) (zk_A b0)) 0 0 (zk_A b0) := by
  refine zk_enter "LandFolio" "steps" rfl rfl (plainFor_of_name (by decide)) [.ref this, .int (x1), .int (x2)] (Nat.le_of_ble_eq_true rfl) ?_
  intro p e s m args below meth c X
  refine zk_at0 (L' := [(0, va_rf (some this)), (1, .int (x1)), (2, .int (x2))]) (rfl) ?_
  have h := hh
  unfold wp_X0_steps at h
  refine zv_aload_n X 0 dX0_steps_0 rfl ?_
  refine zv_iload_n X 1 dX0_steps_1 rfl ?_
  refine zv_ciR ((zr_Vl X (As := [.int (x1)]) (rest := []) h (fun a h => wk_X0_isParcel l h) (zk_l1 ⟨_, rfl, cwV 1 X.hts (lw_V q1364 q1366 qs33 q102 q1367) rfl rfl rfl ⟨rfl, md_X0_isParcel⟩ ⟨Nat.le_of_ble_eq_true rfl, Nat.le_of_ble_eq_true rfl⟩⟩) rfl rfl (zk_rs (Nat.le_of_ble_eq_true rfl)) dX0_steps_2 ⟨by first | exact Nat.le_of_ble_eq_true rfl | omega | (dsimp only; omega), by first | exact Nat.le_of_ble_eq_true rfl | omega | (dsimp only; omega)⟩)) (fun v2 h => ?_)
  refine zv_if_eq X (tgt := 16) dX0_steps_5 (by decide) h (fun h => ?_) (fun h => ?_)
  · refine zv_iconst X (v := -1) dX0_steps_16 rfl ?_
    exact zv_iret X rfl (by first | exact Nat.le_of_ble_eq_true rfl | omega | (dsimp only; omega)) (by first | exact Nat.le_of_ble_eq_true rfl | omega | (dsimp only; omega)) dX0_steps_17 h
  · refine zv_aload_n X 0 dX0_steps_8 rfl ?_
    refine zv_iload_n X 2 dX0_steps_9 rfl ?_
    refine zv_ciR ((zr_Vl X (As := [.int (x2)]) (rest := []) h (fun a h => wk_X0_isParcel l h) (zk_l1 ⟨_, rfl, cwV 1 X.hts (lw_V q1364 q1366 qs33 q102 q1367) rfl rfl rfl ⟨rfl, md_X0_isParcel⟩ ⟨Nat.le_of_ble_eq_true rfl, Nat.le_of_ble_eq_true rfl⟩⟩) rfl rfl (zk_rs (Nat.le_of_ble_eq_true rfl)) dX0_steps_10 ⟨by first | exact Nat.le_of_ble_eq_true rfl | omega | (dsimp only; omega), by first | exact Nat.le_of_ble_eq_true rfl | omega | (dsimp only; omega)⟩)) (fun v10 h => ?_)
    refine zv_if_ne X (tgt := 18) dX0_steps_13 (by decide) h (fun h => ?_) (fun h => ?_)
    · refine zv_aload_n X 0 dX0_steps_18 rfl ?_
      refine zv_iload_n X 2 dX0_steps_19 rfl ?_
      refine zv_cv ((zr_Vl X (As := [.int (x2)]) (rest := []) h (fun a h => wk_X0_laysSteps l h) (zk_l1 ⟨_, rfl, cwV 1 X.hts (lw_V q1737 q1739 qs46 q102 q1740) rfl rfl rfl ⟨rfl, md_X0_laysSteps⟩ ⟨Nat.le_of_ble_eq_true rfl, Nat.le_of_ble_eq_true rfl⟩⟩) rfl rfl (zk_rs (Nat.le_of_ble_eq_true rfl)) dX0_steps_20 ⟨by first | exact Nat.le_of_ble_eq_true rfl | omega | (dsimp only; omega), by first | exact Nat.le_of_ble_eq_true rfl | omega | (dsimp only; omega)⟩)) (fun P20 h => ?_)
      refine zv_aload_n X 0 dX0_steps_23 rfl ?_
      refine zv_getf_r X fo_q410 dX0_steps_24 h (fun v24 h => ?_)
      refine zv_iload_n X 1 dX0_steps_27 rfl ?_
      refine zv_iald X dX0_steps_28 h (fun v28 h => ?_)
      refine zv_bipush X (v := 40) dX0_steps_29 rfl ?_
      refine zv_icmp_ge X (tgt := 43) dX0_steps_31 (by decide) h (fun h => ?_) (fun h => ?_)
      · refine zv_bipush X (v := -2) dX0_steps_43 rfl ?_
        exact zv_iret X rfl (by first | exact Nat.le_of_ble_eq_true rfl | omega | (dsimp only; omega)) (by first | exact Nat.le_of_ble_eq_true rfl | omega | (dsimp only; omega)) dX0_steps_45 h
      · refine zv_aload_n X 0 dX0_steps_34 rfl ?_
        refine zv_getf_r X fo_q410 dX0_steps_35 h (fun v35 h => ?_)
        refine zv_iload_n X 1 dX0_steps_38 rfl ?_
        refine zv_iald X dX0_steps_39 h (fun v39 h => ?_)
        refine zv_goto X (tgt := 45) dX0_steps_40 (by decide) ?_
        exact zv_iret X rfl (by first | exact Nat.le_of_ble_eq_true rfl | omega | (dsimp only; omega)) (by first | exact Nat.le_of_ble_eq_true rfl | omega | (dsimp only; omega)) dX0_steps_45 h
    · refine zv_iconst X (v := -1) dX0_steps_16 rfl ?_
      exact zv_iret X rfl (by first | exact Nat.le_of_ble_eq_true rfl | omega | (dsimp only; omega)) (by first | exact Nat.le_of_ble_eq_true rfl | omega | (dsimp only; omega)) dX0_steps_17 h
theorem md_X0_share : yX0_share.cls ≠ "java/lang/invoke/MethodHandle" ∧ yX0_share.cls ≠ "java/lang/invoke/VarHandle" ∧ (parseMethodDescriptor yX0_share.desc).map (fun d => d.parameters.length) = some 2 := by decide +kernel
theorem wk_X0_share (l : Launch) {D : zk_G} {g : zk_M} {b0 : Nat} {post : Int32 → Prop} {this : Nat} {x1 : Int32} {x2 : Int32} {P : zk_H} (hh : wp_X0_share post this x1 x2 P) : Met l yX0_share (ws_ yX0_share cX0_share 3 (some Jvm.ClassFile.FieldType.int)) ({ frames := 5, cells := 0, slots := 0, locals := 110 } : Room) (va_Pc [.ref this, .int (x1), .int (x2)] (zk_pre D g b0 P)) (va_Qi (fun r u => post r ∧ u = P) (zk_B D b0) (zk_A b0)) 0 0 (zk_A b0) := by
  refine zk_enter "LandFolio" "share" rfl rfl (plainFor_of_name (by decide)) [.ref this, .int (x1), .int (x2)] (Nat.le_of_ble_eq_true rfl) ?_
  intro p e s m args below meth c X
  refine zk_at0 (L' := [(0, va_rf (some this)), (1, .int (x1)), (2, .int (x2))]) (rfl) ?_
  have h := hh
  unfold wp_X0_share at h
  refine zv_aload_n X 0 dX0_share_0 rfl ?_
  refine zv_iload_n X 1 dX0_share_1 rfl ?_
  refine zv_ciR ((zr_Vl X (As := [.int (x1)]) (rest := []) h (fun a h => wk_X0_isParcel l h) (zk_l1 ⟨_, rfl, cwV 1 X.hts (lw_V q1364 q1366 qs33 q102 q1367) rfl rfl rfl ⟨rfl, md_X0_isParcel⟩ ⟨Nat.le_of_ble_eq_true rfl, Nat.le_of_ble_eq_true rfl⟩⟩) rfl rfl (zk_rs (Nat.le_of_ble_eq_true rfl)) dX0_share_2 ⟨by first | exact Nat.le_of_ble_eq_true rfl | omega | (dsimp only; omega), by first | exact Nat.le_of_ble_eq_true rfl | omega | (dsimp only; omega)⟩)) (fun v2 h => ?_)
  refine zv_if_eq X (tgt := 32) dX0_share_5 (by decide) h (fun h => ?_) (fun h => ?_)
  · refine zv_iconst X (v := -1) dX0_share_32 rfl ?_
    exact zv_iret X rfl (by first | exact Nat.le_of_ble_eq_true rfl | omega | (dsimp only; omega)) (by first | exact Nat.le_of_ble_eq_true rfl | omega | (dsimp only; omega)) dX0_share_33 ⟨h, rfl⟩
  · refine zv_aload_n X 0 dX0_share_8 rfl ?_
    refine zv_iload_n X 2 dX0_share_9 rfl ?_
    refine zv_ciR ((zr_Vl X (As := [.int (x2)]) (rest := []) h (fun a h => wk_X0_isOwner l h) (zk_l1 ⟨_, rfl, cwV 1 X.hts (lw_V q1350 q1352 qs31 q102 q1353) rfl rfl rfl ⟨rfl, md_X0_isOwner⟩ ⟨Nat.le_of_ble_eq_true rfl, Nat.le_of_ble_eq_true rfl⟩⟩) rfl rfl (zk_rs (Nat.le_of_ble_eq_true rfl)) dX0_share_10 ⟨by first | exact Nat.le_of_ble_eq_true rfl | omega | (dsimp only; omega), by first | exact Nat.le_of_ble_eq_true rfl | omega | (dsimp only; omega)⟩)) (fun v10 h => ?_)
    refine zv_if_eq X (tgt := 32) dX0_share_13 (by decide) h (fun h => ?_) (fun h => ?_)
    · refine zv_iconst X (v := -1) dX0_share_32 rfl ?_
      exact zv_iret X rfl (by first | exact Nat.le_of_ble_eq_true rfl | omega | (dsimp only; omega)) (by first | exact Nat.le_of_ble_eq_true rfl | omega | (dsimp only; omega)) dX0_share_33 ⟨h, rfl⟩
    · refine zv_aload_n X 0 dX0_share_16 rfl ?_
      refine zv_getf_r X fo_q402 dX0_share_17 h (fun v17 h => ?_)
      refine zv_iload_n X 1 dX0_share_20 rfl ?_
      refine zv_cqR ((zr_Vl X (As := [.int (x1)]) (rest := []) h (fun a h => wk_X1_deed l h) (zk_l1 ⟨_, rfl, cwV 1 X.hts (lw_V q1460 q1190 q1191 q103 q1192) rfl rfl rfl ⟨rfl, md_X1_deed⟩ ⟨Nat.le_of_ble_eq_true rfl, Nat.le_of_ble_eq_true rfl⟩⟩) rfl rfl (zk_rs (Nat.le_of_ble_eq_true rfl)) dX0_share_21 ⟨by first | exact Nat.le_of_ble_eq_true rfl | omega | (dsimp only; omega), by first | exact Nat.le_of_ble_eq_true rfl | omega | (dsimp only; omega)⟩)) (fun v21 h => ?_)
      refine zv_getf_r X fo_q376 dX0_share_24 h (fun v24 h => ?_)
      refine zv_iload_n X 2 dX0_share_27 rfl ?_
      refine zv_iald X dX0_share_28 h (fun v28 h => ?_)
      refine zv_goto X (tgt := 33) dX0_share_29 (by decide) ?_
      exact zv_iret X rfl (by first | exact Nat.le_of_ble_eq_true rfl | omega | (dsimp only; omega)) (by first | exact Nat.le_of_ble_eq_true rfl | omega | (dsimp only; omega)) dX0_share_33 ⟨h, rfl⟩
theorem md_X0_shareOn : yX0_shareOn.cls ≠ "java/lang/invoke/MethodHandle" ∧ yX0_shareOn.cls ≠ "java/lang/invoke/VarHandle" ∧ (parseMethodDescriptor yX0_shareOn.desc).map (fun d => d.parameters.length) = some 3 := by decide +kernel
theorem wk_X0_shareOn (l : Launch) {D : zk_G} {g : zk_M} {b0 : Nat} {post : Int32 → Prop} {this : Nat} {x1 : Int32} {x2 : Int32} {x3 : Int32} {P : zk_H} (hh : wp_X0_shareOn post this x1 x2 x3 P) : Met l yX0_shareOn (ws_ yX0_shareOn cX0_shareOn 5 (some Jvm.ClassFile.FieldType.int)) ({ frames := 4, cells := 0, slots := 0, locals := 89 } : Room) (va_Pc [.ref this, .int (x1), .int (x2), .int (x3)] (zk_pre D g b0 P)) (va_Qi (fun r u => post r ∧ u = P) (zk_B D b0) (zk_A b0)) 0 0 (zk_A b0) := by
  refine zk_enter "LandFolio" "shareOn" rfl rfl (plainFor_of_name (by decide)) [.ref this, .int (x1), .int (x2), .int (x3)] (Nat.le_of_ble_eq_true rfl) ?_
  intro p e s m args below meth c X
  refine zk_at0 (L' := [(0, va_rf (some this)), (1, .int (x1)), (2, .int (x2)), (3, .int (x3))]) (rfl) ?_
  have h := hh
  unfold wp_X0_shareOn at h
  refine zv_aload_n X 0 dX0_shareOn_0 rfl ?_
  refine zv_iload_n X 1 dX0_shareOn_1 rfl ?_
  refine zv_ciR ((zr_Vl X (As := [.int (x1)]) (rest := []) h (fun a h => wk_X0_isParcel l h) (zk_l1 ⟨_, rfl, cwV 1 X.hts (lw_V q1364 q1366 qs33 q102 q1367) rfl rfl rfl ⟨rfl, md_X0_isParcel⟩ ⟨Nat.le_of_ble_eq_true rfl, Nat.le_of_ble_eq_true rfl⟩⟩) rfl rfl (zk_rs (Nat.le_of_ble_eq_true rfl)) dX0_shareOn_2 ⟨by first | exact Nat.le_of_ble_eq_true rfl | omega | (dsimp only; omega), by first | exact Nat.le_of_ble_eq_true rfl | omega | (dsimp only; omega)⟩)) (fun v2 h => ?_)
  refine zv_if_eq X (tgt := 27) dX0_shareOn_5 (by decide) h (fun h => ?_) (fun h => ?_)
  · refine zv_iconst X (v := -1) dX0_shareOn_27 rfl ?_
    exact zv_iret X rfl (by first | exact Nat.le_of_ble_eq_true rfl | omega | (dsimp only; omega)) (by first | exact Nat.le_of_ble_eq_true rfl | omega | (dsimp only; omega)) dX0_shareOn_28 ⟨h, rfl⟩
  · refine zv_aload_n X 0 dX0_shareOn_8 rfl ?_
    refine zv_iload_n X 2 dX0_shareOn_9 rfl ?_
    refine zv_ciR ((zr_Vl X (As := [.int (x2)]) (rest := []) h (fun a h => wk_X0_isOwner l h) (zk_l1 ⟨_, rfl, cwV 1 X.hts (lw_V q1350 q1352 qs31 q102 q1353) rfl rfl rfl ⟨rfl, md_X0_isOwner⟩ ⟨Nat.le_of_ble_eq_true rfl, Nat.le_of_ble_eq_true rfl⟩⟩) rfl rfl (zk_rs (Nat.le_of_ble_eq_true rfl)) dX0_shareOn_10 ⟨by first | exact Nat.le_of_ble_eq_true rfl | omega | (dsimp only; omega), by first | exact Nat.le_of_ble_eq_true rfl | omega | (dsimp only; omega)⟩)) (fun v10 h => ?_)
    refine zv_if_eq X (tgt := 27) dX0_shareOn_13 (by decide) h (fun h => ?_) (fun h => ?_)
    · refine zv_iconst X (v := -1) dX0_shareOn_27 rfl ?_
      exact zv_iret X rfl (by first | exact Nat.le_of_ble_eq_true rfl | omega | (dsimp only; omega)) (by first | exact Nat.le_of_ble_eq_true rfl | omega | (dsimp only; omega)) dX0_shareOn_28 ⟨h, rfl⟩
    · refine zv_iload_n X 3 dX0_shareOn_16 rfl ?_
      refine zv_iconst X (v := 0) dX0_shareOn_17 rfl ?_
      refine zv_sipush X (v := 9999) dX0_shareOn_18 rfl ?_
      refine zv_ciR ((zr_S X (As := [.int (x3), .int (0), .int (9999)]) (rest := []) (wk_X0_isIn l h) (va_cwS 3 X.hts (lw_S q462 q463 q102 q464) rfl rfl rfl md_X0_isIn ⟨Nat.le_of_ble_eq_true rfl, Nat.le_of_ble_eq_true rfl⟩) rfl rfl (zk_rs (Nat.le_of_ble_eq_true rfl)) dX0_shareOn_21 ⟨by first | exact Nat.le_of_ble_eq_true rfl | omega | (dsimp only; omega), by first | exact Nat.le_of_ble_eq_true rfl | omega | (dsimp only; omega)⟩)) (fun v21 h => ?_)
      refine zv_if_ne X (tgt := 29) dX0_shareOn_24 (by decide) h (fun h => ?_) (fun h => ?_)
      · refine zv_aload_n X 0 dX0_shareOn_29 rfl ?_
        refine zv_getf_r X fo_q402 dX0_shareOn_30 h (fun v30 h => ?_)
        refine zv_iload_n X 1 dX0_shareOn_33 rfl ?_
        refine zv_iload_n X 3 dX0_shareOn_34 rfl ?_
        refine zv_cqR ((zr_Vl X (As := [.int (x1), .int (x3)]) (rest := []) h (fun a h => wk_X1_deedOn l h) (zk_l1 ⟨_, rfl, cwV 2 X.hts (lw_V q1749 q1194 q1195 q103 q1196) rfl rfl rfl ⟨rfl, md_X1_deedOn⟩ ⟨Nat.le_of_ble_eq_true rfl, Nat.le_of_ble_eq_true rfl⟩⟩) rfl rfl (zk_rs (Nat.le_of_ble_eq_true rfl)) dX0_shareOn_35 ⟨by first | exact Nat.le_of_ble_eq_true rfl | omega | (dsimp only; omega), by first | exact Nat.le_of_ble_eq_true rfl | omega | (dsimp only; omega)⟩)) (fun v35 h => ?_)
        refine zv_astore X (L' := [(4, va_rf (v35)), (0, va_rf (some this)), (1, .int (x1)), (2, .int (x2)), (3, .int (x3))]) dX0_shareOn_38 (by decide) rfl ?_
        refine zv_aload X 0 dX0_shareOn_40 rfl ?_
        refine zv_ifnonnull X (tgt := 50) dX0_shareOn_42 (by decide) h (fun h => ?_) (fun h => ?_)
        · refine zv_aload X 0 dX0_shareOn_50 rfl ?_
          refine zv_getf_r X fo_q376 dX0_shareOn_52 h (fun v52 h => ?_)
          refine zv_iload_n X 3 dX0_shareOn_55 rfl ?_
          refine zv_iald X dX0_shareOn_56 h (fun v56 h => ?_)
          exact zv_iret X rfl (by first | exact Nat.le_of_ble_eq_true rfl | omega | (dsimp only; omega)) (by first | exact Nat.le_of_ble_eq_true rfl | omega | (dsimp only; omega)) dX0_shareOn_57 ⟨h, rfl⟩
        · refine zv_bipush X (v := -2) dX0_shareOn_45 rfl ?_
          refine zv_goto X (tgt := 57) dX0_shareOn_47 (by decide) ?_
          exact zv_iret X rfl (by first | exact Nat.le_of_ble_eq_true rfl | omega | (dsimp only; omega)) (by first | exact Nat.le_of_ble_eq_true rfl | omega | (dsimp only; omega)) dX0_shareOn_57 ⟨h, rfl⟩
      · refine zv_iconst X (v := -1) dX0_shareOn_27 rfl ?_
        exact zv_iret X rfl (by first | exact Nat.le_of_ble_eq_true rfl | omega | (dsimp only; omega)) (by first | exact Nat.le_of_ble_eq_true rfl | omega | (dsimp only; omega)) dX0_shareOn_28 ⟨h, rfl⟩
theorem md_X0_at : yX0_at.cls ≠ "java/lang/invoke/MethodHandle" ∧ yX0_at.cls ≠ "java/lang/invoke/VarHandle" ∧ (parseMethodDescriptor yX0_at.desc).map (fun d => d.parameters.length) = some 2 := by decide +kernel
theorem wk_X0_at (l : Launch) {D : zk_G} {g : zk_M} {b0 : Nat} {post : Int32 → Prop} {this : Nat} {x1 : Int32} {x2 : Int32} {P : zk_H} (hh : wp_X0_at post this x1 x2 P) : Met l yX0_at (ws_ yX0_at cX0_at 3 (some Jvm.ClassFile.FieldType.int)) ({ frames := 5, cells := 0, slots := 0, locals := 108 } : Room) (va_Pc [.ref this, .int (x1), .int (x2)] (zk_pre D g b0 P)) (va_Qi (fun r u => post r ∧ u = P) (zk_B D b0) (zk_A b0)) 0 0 (zk_A b0) := by
  refine zk_enter "LandFolio" "at" rfl rfl (plainFor_of_name (by decide)) [.ref this, .int (x1), .int (x2)] (Nat.le_of_ble_eq_true rfl) ?_
  intro p e s m args below meth c X
  refine zk_at0 (L' := [(0, va_rf (some this)), (1, .int (x1)), (2, .int (x2))]) (rfl) ?_
  have h := hh
  unfold wp_X0_at at h
  refine zv_aload_n X 0 dX0_at_0 rfl ?_
  refine zv_iload_n X 1 dX0_at_1 rfl ?_
  refine zv_iload_n X 2 dX0_at_2 rfl ?_
  refine zv_ciR ((zr_Vl X (As := [.int (x1), .int (x2)]) (rest := []) h (fun a h => wk_X0_isSquare l h) (zk_l1 ⟨_, rfl, cwV 2 X.hts (lw_V q1477 q1479 qs34 q102 q1480) rfl rfl rfl ⟨rfl, md_X0_isSquare⟩ ⟨Nat.le_of_ble_eq_true rfl, Nat.le_of_ble_eq_true rfl⟩⟩) rfl rfl (zk_rs (Nat.le_of_ble_eq_true rfl)) dX0_at_3 ⟨by first | exact Nat.le_of_ble_eq_true rfl | omega | (dsimp only; omega), by first | exact Nat.le_of_ble_eq_true rfl | omega | (dsimp only; omega)⟩)) (fun v3 h => ?_)
  refine zv_if_eq X (tgt := 21) dX0_at_6 (by decide) h (fun h => ?_) (fun h => ?_)
  · refine zv_iconst X (v := -1) dX0_at_21 rfl ?_
    exact zv_iret X rfl (by first | exact Nat.le_of_ble_eq_true rfl | omega | (dsimp only; omega)) (by first | exact Nat.le_of_ble_eq_true rfl | omega | (dsimp only; omega)) dX0_at_22 ⟨h, rfl⟩
  · refine zv_aload_n X 0 dX0_at_9 rfl ?_
    refine zv_getf_r X fo_q402 dX0_at_10 h (fun v10 h => ?_)
    refine zv_iload_n X 1 dX0_at_13 rfl ?_
    refine zv_iload_n X 2 dX0_at_14 rfl ?_
    refine zv_ciR ((zr_Vl X (As := [.int (x1), .int (x2)]) (rest := []) h (fun a h => wk_X1_liveAt l h) (zk_l1 ⟨_, rfl, cwV 2 X.hts (lw_V q1481 q1482 q1483 q103 q1484) rfl rfl rfl ⟨rfl, md_X1_liveAt⟩ ⟨Nat.le_of_ble_eq_true rfl, Nat.le_of_ble_eq_true rfl⟩⟩) rfl rfl (zk_rs (Nat.le_of_ble_eq_true rfl)) dX0_at_15 ⟨by first | exact Nat.le_of_ble_eq_true rfl | omega | (dsimp only; omega), by first | exact Nat.le_of_ble_eq_true rfl | omega | (dsimp only; omega)⟩)) (fun v15 h => ?_)
    refine zv_goto X (tgt := 22) dX0_at_18 (by decide) ?_
    exact zv_iret X rfl (by first | exact Nat.le_of_ble_eq_true rfl | omega | (dsimp only; omega)) (by first | exact Nat.le_of_ble_eq_true rfl | omega | (dsimp only; omega)) dX0_at_22 ⟨h, rfl⟩
theorem kj_X0_atDay_83 {p : Program} {l : Launch} {e : Env} {s : State} {m : MethodId} {args : Array Value} {below : List Frame} {meth : Method} {c : Code} {D : zk_G} {g : zk_M} {b0 : Nat} (X : zk_X p s m args meth c D g b0 cX0_atDay 6 "LandFolio" "atDay" (some Jvm.ClassFile.FieldType.int)) {post : Int32 → Prop} {K28 : Int32 → Int32 → Prop} {a0 : Option Nat} {a1 : Int32} {a2 : Int32} {a3 : Int32} {a5 : Int32} {s0 : Int32} {P : zk_H}  (hK28 : ∀ (u4 : Int32) (u5 : Int32), K28 u4 u5 → zV p l e ({ frames := 4, cells := 0, slots := 0, locals := 85 } : Room) s m args below meth c D b0 6 (0) (0) (MQ below (va_Qi (fun r u => post r ∧ u = P) (zk_B D b0) (zk_A b0)) args s 0 0 (zk_A b0)) P 28 [(0, va_rf (a0)), (1, .int (a1)), (2, .int (a2)), (3, .int (a3)), (4, .int (u4)), (5, .int (u5))] [])  (hh : wj_X0_atDay_83 post K28 a0 a1 a2 a3 a5 s0 P) : zV p l e ({ frames := 4, cells := 0, slots := 0, locals := 85 } : Room) s m args below meth c D b0 6 (0) (0) (MQ below (va_Qi (fun r u => post r ∧ u = P) (zk_B D b0) (zk_A b0)) args s 0 0 (zk_A b0)) P 83 [(0, va_rf (a0)), (1, .int (a1)), (2, .int (a2)), (3, .int (a3)), (5, .int (a5))] [.int (s0)] := by
  have h := hh
  unfold wj_X0_atDay_83 at h
  refine zv_istore X (L' := [(4, .int (s0)), (0, va_rf (a0)), (1, .int (a1)), (2, .int (a2)), (3, .int (a3)), (5, .int (a5))]) dX0_atDay_83 (by decide) rfl ?_
  obtain ⟨v85, e85, h⟩ := zt_e h
  refine zv_iinc X (v := v85) (L' := [(5, .int (v85)), (4, .int (s0)), (0, va_rf (a0)), (1, .int (a1)), (2, .int (a2)), (3, .int (a3))]) 5 dX0_atDay_85 rfl e85 (by decide) rfl ?_
  refine zv_goto X (tgt := 28) dX0_atDay_88 (by decide) ?_
  refine zv_sub (L' := [(0, va_rf (a0)), (1, .int (a1)), (2, .int (a2)), (3, .int (a3)), (4, .int (s0)), (5, .int (v85))]) [2, 3, 4, 5, 1, 0] rfl ?_
  exact hK28 _ _ h
theorem kj_X0_atDay_81 {p : Program} {l : Launch} {e : Env} {s : State} {m : MethodId} {args : Array Value} {below : List Frame} {meth : Method} {c : Code} {D : zk_G} {g : zk_M} {b0 : Nat} (X : zk_X p s m args meth c D g b0 cX0_atDay 6 "LandFolio" "atDay" (some Jvm.ClassFile.FieldType.int)) {post : Int32 → Prop} {K28 : Int32 → Int32 → Prop} {a0 : Option Nat} {a1 : Int32} {a2 : Int32} {a3 : Int32} {a4 : Int32} {a5 : Int32} {P : zk_H}  (hK28 : ∀ (u4 : Int32) (u5 : Int32), K28 u4 u5 → zV p l e ({ frames := 4, cells := 0, slots := 0, locals := 85 } : Room) s m args below meth c D b0 6 (0) (0) (MQ below (va_Qi (fun r u => post r ∧ u = P) (zk_B D b0) (zk_A b0)) args s 0 0 (zk_A b0)) P 28 [(0, va_rf (a0)), (1, .int (a1)), (2, .int (a2)), (3, .int (a3)), (4, .int (u4)), (5, .int (u5))] [])  (hh : wj_X0_atDay_81 post K28 a0 a1 a2 a3 a4 a5 P) : zV p l e ({ frames := 4, cells := 0, slots := 0, locals := 85 } : Room) s m args below meth c D b0 6 (0) (0) (MQ below (va_Qi (fun r u => post r ∧ u = P) (zk_B D b0) (zk_A b0)) args s 0 0 (zk_A b0)) P 81 [(0, va_rf (a0)), (1, .int (a1)), (2, .int (a2)), (3, .int (a3)), (4, .int (a4)), (5, .int (a5))] [] := by
  have h := hh
  unfold wj_X0_atDay_81 at h
  refine zv_iload X 4 dX0_atDay_81 rfl ?_
  refine zv_sub (L' := [(0, va_rf (a0)), (1, .int (a1)), (2, .int (a2)), (3, .int (a3)), (5, .int (a5))]) [0, 1, 2, 3, 5] rfl ?_
  exact kj_X0_atDay_83 X hK28 h
theorem kb_X0_atDay_28 {p : Program} {l : Launch} {e : Env} {s : State} {m : MethodId} {args : Array Value} {below : List Frame} {meth : Method} {c : Code} {D : zk_G} {g : zk_M} {b0 : Nat} (X : zk_X p s m args meth c D g b0 cX0_atDay 6 "LandFolio" "atDay" (some Jvm.ClassFile.FieldType.int)) {post : Int32 → Prop}  {K28 : Int32 → Int32 → Prop} {a0 : Option Nat} {a1 : Int32} {a2 : Int32} {a3 : Int32} {a4 : Int32} {a5 : Int32} {P : zk_H}   (hK28 : ∀ (u4 : Int32) (u5 : Int32), K28 u4 u5 → zV p l e ({ frames := 4, cells := 0, slots := 0, locals := 85 } : Room) s m args below meth c D b0 6 (0) (0) (MQ below (va_Qi (fun r u => post r ∧ u = P) (zk_B D b0) (zk_A b0)) args s 0 0 (zk_A b0)) P 28 [(0, va_rf (a0)), (1, .int (a1)), (2, .int (a2)), (3, .int (a3)), (4, .int (u4)), (5, .int (u5))] [])  (hh : wb_X0_atDay_28 post a0 a1 a2 a3 P K28 a4 a5) : zV p l e ({ frames := 4, cells := 0, slots := 0, locals := 85 } : Room) s m args below meth c D b0 6 (0) (0) (MQ below (va_Qi (fun r u => post r ∧ u = P) (zk_B D b0) (zk_A b0)) args s 0 0 (zk_A b0)) P 28 [(0, va_rf (a0)), (1, .int (a1)), (2, .int (a2)), (3, .int (a3)), (4, .int (a4)), (5, .int (a5))] [] := by
  have h := hh
  unfold wb_X0_atDay_28 at h
  refine zv_iload X 5 dX0_atDay_28 rfl ?_
  refine zv_aload_n X 0 dX0_atDay_30 rfl ?_
  refine zv_getf_r X fo_q402 dX0_atDay_31 h (fun v31 h => ?_)
  refine zv_getf_r X fo_q195 dX0_atDay_34 h (fun v34 h => ?_)
  refine zv_ciR ((zr_Vl X (As := []) (rest := [.int (a5)]) h (fun a h => wk_J2_size l h) (zk_l1 ⟨_, rfl, cwV 0 X.hts (lw_V q672 q362 q363 q106 q364) rfl rfl rfl ⟨rfl, md_J2_size⟩ ⟨Nat.le_of_ble_eq_true rfl, Nat.le_of_ble_eq_true rfl⟩⟩) rfl rfl (zk_rs (Nat.le_of_ble_eq_true rfl)) dX0_atDay_37 ⟨by first | exact Nat.le_of_ble_eq_true rfl | omega | (dsimp only; omega), by first | exact Nat.le_of_ble_eq_true rfl | omega | (dsimp only; omega)⟩)) (fun v37 h => ?_)
  refine zv_icmp_ge X (tgt := 91) dX0_atDay_40 (by decide) h (fun h => ?_) (fun h => ?_)
  · refine zv_iload X 4 dX0_atDay_91 rfl ?_
    exact zv_iret X rfl (by first | exact Nat.le_of_ble_eq_true rfl | omega | (dsimp only; omega)) (by first | exact Nat.le_of_ble_eq_true rfl | omega | (dsimp only; omega)) dX0_atDay_93 ⟨h, rfl⟩
  · refine zv_aload_n X 0 dX0_atDay_43 rfl ?_
    refine zv_getf_r X fo_q402 dX0_atDay_44 h (fun v44 h => ?_)
    refine zv_iload X 5 dX0_atDay_47 rfl ?_
    refine zv_cqR ((zr_Vl X (As := [.int (a5)]) (rest := []) h (fun a h => wk_X1_parcel l h) (zk_l1 ⟨_, rfl, cwV 1 X.hts (lw_V q1371 q502 q503 q103 q504) rfl rfl rfl ⟨rfl, md_X1_parcel⟩ ⟨Nat.le_of_ble_eq_true rfl, Nat.le_of_ble_eq_true rfl⟩⟩) rfl rfl (zk_rs (Nat.le_of_ble_eq_true rfl)) dX0_atDay_49 ⟨by first | exact Nat.le_of_ble_eq_true rfl | omega | (dsimp only; omega), by first | exact Nat.le_of_ble_eq_true rfl | omega | (dsimp only; omega)⟩)) (fun v49 h => ?_)
    refine zv_iload_n X 1 dX0_atDay_52 rfl ?_
    refine zv_iload_n X 2 dX0_atDay_53 rfl ?_
    refine zv_ciR ((zr_Vl X (As := [.int (a1), .int (a2)]) (rest := []) h (fun a h => wk_X2_has l h) (zk_l1 ⟨_, rfl, cwV 2 X.hts (lw_V q1758 q1221 q1222 q111 q1223) rfl rfl rfl ⟨rfl, md_X2_has⟩ ⟨Nat.le_of_ble_eq_true rfl, Nat.le_of_ble_eq_true rfl⟩⟩) rfl rfl (zk_rs (Nat.le_of_ble_eq_true rfl)) dX0_atDay_54 ⟨by first | exact Nat.le_of_ble_eq_true rfl | omega | (dsimp only; omega), by first | exact Nat.le_of_ble_eq_true rfl | omega | (dsimp only; omega)⟩)) (fun v54 h => ?_)
    refine zv_if_eq X (tgt := 81) dX0_atDay_57 (by decide) h (fun h => ?_) (fun h => ?_)
    · exact kj_X0_atDay_81 X hK28 h
    · refine zv_aload_n X 0 dX0_atDay_60 rfl ?_
      refine zv_getf_r X fo_q402 dX0_atDay_61 h (fun v61 h => ?_)
      refine zv_iload X 5 dX0_atDay_64 rfl ?_
      refine zv_cqR ((zr_Vl X (As := [.int (a5)]) (rest := []) h (fun a h => wk_X1_parcel l h) (zk_l1 ⟨_, rfl, cwV 1 X.hts (lw_V q1371 q502 q503 q103 q504) rfl rfl rfl ⟨rfl, md_X1_parcel⟩ ⟨Nat.le_of_ble_eq_true rfl, Nat.le_of_ble_eq_true rfl⟩⟩) rfl rfl (zk_rs (Nat.le_of_ble_eq_true rfl)) dX0_atDay_66 ⟨by first | exact Nat.le_of_ble_eq_true rfl | omega | (dsimp only; omega), by first | exact Nat.le_of_ble_eq_true rfl | omega | (dsimp only; omega)⟩)) (fun v66 h => ?_)
      refine zv_getf_i X fo_q321 dX0_atDay_69 h (fun v69 h => ?_)
      refine zv_iload_n X 3 dX0_atDay_72 rfl ?_
      refine zv_icmp_gt X (tgt := 81) dX0_atDay_73 (by decide) h (fun h => ?_) (fun h => ?_)
      · exact kj_X0_atDay_81 X hK28 h
      · refine zv_iload X 5 dX0_atDay_76 rfl ?_
        refine zv_goto X (tgt := 83) dX0_atDay_78 (by decide) ?_
        refine zv_sub (L' := [(0, va_rf (a0)), (1, .int (a1)), (2, .int (a2)), (3, .int (a3)), (5, .int (a5))]) [0, 1, 2, 3, 5] rfl ?_
        exact kj_X0_atDay_83 X hK28 h
theorem kl_X0_atDay_28 {p : Program} {l : Launch} {e : Env} {s : State} {m : MethodId} {args : Array Value} {below : List Frame} {meth : Method} {c : Code} {D : zk_G} {g : zk_M} {b0 : Nat} (X : zk_X p s m args meth c D g b0 cX0_atDay 6 "LandFolio" "atDay" (some Jvm.ClassFile.FieldType.int)) {post : Int32 → Prop}  {a0 : Option Nat} {a1 : Int32} {a2 : Int32} {a3 : Int32} {P : zk_H}   : ∀ (n : Nat) (a4 : Int32) (a5 : Int32), wl_X0_atDay_28 post a0 a1 a2 a3 P n a4 a5 → zV p l e ({ frames := 4, cells := 0, slots := 0, locals := 85 } : Room) s m args below meth c D b0 6 (0) (0) (MQ below (va_Qi (fun r u => post r ∧ u = P) (zk_B D b0) (zk_A b0)) args s 0 0 (zk_A b0)) P 28 [(0, va_rf (a0)), (1, .int (a1)), (2, .int (a2)), (3, .int (a3)), (4, .int (a4)), (5, .int (a5))] [] := by
  intro n
  induction n with
  | zero => intro _ _ h; exact h.elim
  | succ n ih =>
    intro a4 a5 h
    exact kb_X0_atDay_28 X  (fun u0 u1 h => ih _ _ h)  h
theorem md_X0_atDay : yX0_atDay.cls ≠ "java/lang/invoke/MethodHandle" ∧ yX0_atDay.cls ≠ "java/lang/invoke/VarHandle" ∧ (parseMethodDescriptor yX0_atDay.desc).map (fun d => d.parameters.length) = some 3 := by decide +kernel
theorem wk_X0_atDay (l : Launch) {D : zk_G} {g : zk_M} {b0 : Nat} {post : Int32 → Prop} {this : Nat} {x1 : Int32} {x2 : Int32} {x3 : Int32} {P : zk_H} (hh : wp_X0_atDay post this x1 x2 x3 P) : Met l yX0_atDay (ws_ yX0_atDay cX0_atDay 6 (some Jvm.ClassFile.FieldType.int)) ({ frames := 4, cells := 0, slots := 0, locals := 85 } : Room) (va_Pc [.ref this, .int (x1), .int (x2), .int (x3)] (zk_pre D g b0 P)) (va_Qi (fun r u => post r ∧ u = P) (zk_B D b0) (zk_A b0)) 0 0 (zk_A b0) := by
  refine zk_enter "LandFolio" "atDay" rfl rfl (plainFor_of_name (by decide)) [.ref this, .int (x1), .int (x2), .int (x3)] (Nat.le_of_ble_eq_true rfl) ?_
  intro p e s m args below meth c X
  refine zk_at0 (L' := [(0, va_rf (some this)), (1, .int (x1)), (2, .int (x2)), (3, .int (x3))]) (rfl) ?_
  have h := hh
  unfold wp_X0_atDay at h
  refine zv_aload_n X 0 dX0_atDay_0 rfl ?_
  refine zv_iload_n X 1 dX0_atDay_1 rfl ?_
  refine zv_iload_n X 2 dX0_atDay_2 rfl ?_
  refine zv_ciR ((zr_Vl X (As := [.int (x1), .int (x2)]) (rest := []) h (fun a h => wk_X0_isSquare l h) (zk_l1 ⟨_, rfl, cwV 2 X.hts (lw_V q1477 q1479 qs34 q102 q1480) rfl rfl rfl ⟨rfl, md_X0_isSquare⟩ ⟨Nat.le_of_ble_eq_true rfl, Nat.le_of_ble_eq_true rfl⟩⟩) rfl rfl (zk_rs (Nat.le_of_ble_eq_true rfl)) dX0_atDay_3 ⟨by first | exact Nat.le_of_ble_eq_true rfl | omega | (dsimp only; omega), by first | exact Nat.le_of_ble_eq_true rfl | omega | (dsimp only; omega)⟩)) (fun v3 h => ?_)
  refine zv_if_eq X (tgt := 20) dX0_atDay_6 (by decide) h (fun h => ?_) (fun h => ?_)
  · refine zv_iconst X (v := -1) dX0_atDay_20 rfl ?_
    exact zv_iret X rfl (by first | exact Nat.le_of_ble_eq_true rfl | omega | (dsimp only; omega)) (by first | exact Nat.le_of_ble_eq_true rfl | omega | (dsimp only; omega)) dX0_atDay_21 ⟨h, rfl⟩
  · refine zv_iload_n X 3 dX0_atDay_9 rfl ?_
    refine zv_iconst X (v := 0) dX0_atDay_10 rfl ?_
    refine zv_sipush X (v := 9999) dX0_atDay_11 rfl ?_
    refine zv_ciR ((zr_S X (As := [.int (x3), .int (0), .int (9999)]) (rest := []) (wk_X0_isIn l h) (va_cwS 3 X.hts (lw_S q462 q463 q102 q464) rfl rfl rfl md_X0_isIn ⟨Nat.le_of_ble_eq_true rfl, Nat.le_of_ble_eq_true rfl⟩) rfl rfl (zk_rs (Nat.le_of_ble_eq_true rfl)) dX0_atDay_14 ⟨by first | exact Nat.le_of_ble_eq_true rfl | omega | (dsimp only; omega), by first | exact Nat.le_of_ble_eq_true rfl | omega | (dsimp only; omega)⟩)) (fun v14 h => ?_)
    refine zv_if_ne X (tgt := 22) dX0_atDay_17 (by decide) h (fun h => ?_) (fun h => ?_)
    · refine zv_iconst X (v := 0) dX0_atDay_22 rfl ?_
      refine zv_istore X (L' := [(4, .int (0)), (0, va_rf (some this)), (1, .int (x1)), (2, .int (x2)), (3, .int (x3))]) dX0_atDay_23 (by decide) rfl ?_
      refine zv_iconst X (v := 0) dX0_atDay_25 rfl ?_
      refine zv_istore X (L' := [(5, .int (0)), (4, .int (0)), (0, va_rf (some this)), (1, .int (x1)), (2, .int (x2)), (3, .int (x3))]) dX0_atDay_26 (by decide) rfl ?_
      refine zv_sub (L' := [(0, va_rf (some this)), (1, .int (x1)), (2, .int (x2)), (3, .int (x3)), (4, .int (0)), (5, .int (0))]) [2, 3, 4, 5, 1, 0] rfl ?_
      obtain ⟨n26, h⟩ := h
      exact kl_X0_atDay_28 X  n26 _ _ h
    · refine zv_iconst X (v := -1) dX0_atDay_20 rfl ?_
      exact zv_iret X rfl (by first | exact Nat.le_of_ble_eq_true rfl | omega | (dsimp only; omega)) (by first | exact Nat.le_of_ble_eq_true rfl | omega | (dsimp only; omega)) dX0_atDay_21 ⟨h, rfl⟩
theorem kj_X0_neighbour_66 {p : Program} {l : Launch} {e : Env} {s : State} {m : MethodId} {args : Array Value} {below : List Frame} {meth : Method} {c : Code} {D : zk_G} {g : zk_M} {b0 : Nat} (X : zk_X p s m args meth c D g b0 cX0_neighbour 6 "LandFolio" "neighbour" (some Jvm.ClassFile.FieldType.int)) {post : Int32 → Prop} {K19 : Int32 → Int32 → Prop} {a0 : Option Nat} {a1 : Int32} {a4 : Int32} {s0 : Int32} {s1 : Int32} {P : zk_H}  (hK19 : ∀ (u3 : Int32) (u4 : Int32), K19 u3 u4 → zV p l e ({ frames := 5, cells := 0, slots := 0, locals := 107 } : Room) s m args below meth c D b0 6 (0) (0) (MQ below (va_Qi (fun r u => post r ∧ u = P) (zk_B D b0) (zk_A b0)) args s 0 0 (zk_A b0)) P 19 [(0, va_rf (a0)), (1, .int (a1)), (3, .int (u3)), (4, .int (u4))] [])  (hh : wj_X0_neighbour_66 post K19 a0 a1 a4 s0 s1 P) : zV p l e ({ frames := 5, cells := 0, slots := 0, locals := 107 } : Room) s m args below meth c D b0 6 (0) (0) (MQ below (va_Qi (fun r u => post r ∧ u = P) (zk_B D b0) (zk_A b0)) args s 0 0 (zk_A b0)) P 66 [(0, va_rf (a0)), (1, .int (a1)), (4, .int (a4))] [.int (s0), .int (s1)] := by
  have h := hh
  unfold wj_X0_neighbour_66 at h
  refine zv_isub X dX0_neighbour_66 ?_
  refine zv_top_i h (fun v67 h => ?_)
  refine zv_istore_n X (i := 3) (L' := [(3, .int (v67)), (0, va_rf (a0)), (1, .int (a1)), (4, .int (a4))]) dX0_neighbour_67 rfl (by decide) rfl ?_
  obtain ⟨v68, e68, h⟩ := zt_e h
  refine zv_iinc X (v := v68) (L' := [(4, .int (v68)), (3, .int (v67)), (0, va_rf (a0)), (1, .int (a1))]) 3 dX0_neighbour_68 rfl e68 (by decide) rfl ?_
  refine zv_goto X (tgt := 19) dX0_neighbour_71 (by decide) ?_
  refine zv_sub (L' := [(0, va_rf (a0)), (1, .int (a1)), (3, .int (v67)), (4, .int (v68))]) [2, 3, 1, 0] rfl ?_
  exact hK19 _ _ h
theorem kj_X0_neighbour_55 {p : Program} {l : Launch} {e : Env} {s : State} {m : MethodId} {args : Array Value} {below : List Frame} {meth : Method} {c : Code} {D : zk_G} {g : zk_M} {b0 : Nat} (X : zk_X p s m args meth c D g b0 cX0_neighbour 6 "LandFolio" "neighbour" (some Jvm.ClassFile.FieldType.int)) {post : Int32 → Prop} {K19 : Int32 → Int32 → Prop} {a0 : Option Nat} {a1 : Int32} {a3 : Int32} {a4 : Int32} {a5 : Int32} {P : zk_H}  (hK19 : ∀ (u3 : Int32) (u4 : Int32), K19 u3 u4 → zV p l e ({ frames := 5, cells := 0, slots := 0, locals := 107 } : Room) s m args below meth c D b0 6 (0) (0) (MQ below (va_Qi (fun r u => post r ∧ u = P) (zk_B D b0) (zk_A b0)) args s 0 0 (zk_A b0)) P 19 [(0, va_rf (a0)), (1, .int (a1)), (3, .int (u3)), (4, .int (u4))] [])  (hh : wj_X0_neighbour_55 post K19 a0 a1 a3 a4 a5 P) : zV p l e ({ frames := 5, cells := 0, slots := 0, locals := 107 } : Room) s m args below meth c D b0 6 (0) (0) (MQ below (va_Qi (fun r u => post r ∧ u = P) (zk_B D b0) (zk_A b0)) args s 0 0 (zk_A b0)) P 55 [(0, va_rf (a0)), (1, .int (a1)), (3, .int (a3)), (4, .int (a4)), (5, .int (a5))] [] := by
  have h := hh
  unfold wj_X0_neighbour_55 at h
  refine zv_iload_n X 2 dX0_neighbour_55 rfl ?_
  refine zv_iload X 4 dX0_neighbour_56 rfl ?_
  refine zv_if_eq X (tgt := 65) dX0_neighbour_58 (by decide) h (fun h => ?_) (fun h => ?_)
  · refine zv_iconst X (v := 0) dX0_neighbour_65 rfl ?_
    refine zv_sub (L' := [(0, va_rf (a0)), (1, .int (a1)), (4, .int (a4))]) [0, 1, 3] rfl ?_
    exact kj_X0_neighbour_66 X hK19 h
  · refine zv_iconst X (v := 1) dX0_neighbour_61 rfl ?_
    refine zv_goto X (tgt := 66) dX0_neighbour_62 (by decide) ?_
    refine zv_sub (L' := [(0, va_rf (a0)), (1, .int (a1)), (4, .int (a4))]) [0, 1, 3] rfl ?_
    exact kj_X0_neighbour_66 X hK19 h
theorem kb_X0_neighbour_19 {p : Program} {l : Launch} {e : Env} {s : State} {m : MethodId} {args : Array Value} {below : List Frame} {meth : Method} {c : Code} {D : zk_G} {g : zk_M} {b0 : Nat} (X : zk_X p s m args meth c D g b0 cX0_neighbour 6 "LandFolio" "neighbour" (some Jvm.ClassFile.FieldType.int)) {post : Int32 → Prop}  {K19 : Int32 → Int32 → Prop} {a0 : Option Nat} {a1 : Int32} {a3 : Int32} {a4 : Int32} {P : zk_H}   (hK19 : ∀ (u3 : Int32) (u4 : Int32), K19 u3 u4 → zV p l e ({ frames := 5, cells := 0, slots := 0, locals := 107 } : Room) s m args below meth c D b0 6 (0) (0) (MQ below (va_Qi (fun r u => post r ∧ u = P) (zk_B D b0) (zk_A b0)) args s 0 0 (zk_A b0)) P 19 [(0, va_rf (a0)), (1, .int (a1)), (3, .int (u3)), (4, .int (u4))] [])  (hh : wb_X0_neighbour_19 post a0 a1 P K19 a3 a4) : zV p l e ({ frames := 5, cells := 0, slots := 0, locals := 107 } : Room) s m args below meth c D b0 6 (0) (0) (MQ below (va_Qi (fun r u => post r ∧ u = P) (zk_B D b0) (zk_A b0)) args s 0 0 (zk_A b0)) P 19 [(0, va_rf (a0)), (1, .int (a1)), (3, .int (a3)), (4, .int (a4))] [] := by
  have h := hh
  unfold wb_X0_neighbour_19 at h
  refine zv_iload X 3 dX0_neighbour_19 rfl ?_
  refine zv_aload_n X 0 dX0_neighbour_21 rfl ?_
  refine zv_getf_r X fo_q402 dX0_neighbour_22 h (fun v22 h => ?_)
  refine zv_getf_r X fo_q195 dX0_neighbour_25 h (fun v25 h => ?_)
  refine zv_ciR ((zr_Vl X (As := []) (rest := [.int (a4)]) h (fun a h => wk_J2_size l h) (zk_l1 ⟨_, rfl, cwV 0 X.hts (lw_V q672 q362 q363 q106 q364) rfl rfl rfl ⟨rfl, md_J2_size⟩ ⟨Nat.le_of_ble_eq_true rfl, Nat.le_of_ble_eq_true rfl⟩⟩) rfl rfl (zk_rs (Nat.le_of_ble_eq_true rfl)) dX0_neighbour_28 ⟨by first | exact Nat.le_of_ble_eq_true rfl | omega | (dsimp only; omega), by first | exact Nat.le_of_ble_eq_true rfl | omega | (dsimp only; omega)⟩)) (fun v28 h => ?_)
  refine zv_icmp_ge X (tgt := 74) dX0_neighbour_31 (by decide) h (fun h => ?_) (fun h => ?_)
  · refine zv_bipush X (v := -2) dX0_neighbour_74 rfl ?_
    exact zv_iret X rfl (by first | exact Nat.le_of_ble_eq_true rfl | omega | (dsimp only; omega)) (by first | exact Nat.le_of_ble_eq_true rfl | omega | (dsimp only; omega)) dX0_neighbour_76 ⟨h, rfl⟩
  · refine zv_aload_n X 0 dX0_neighbour_34 rfl ?_
    refine zv_iload_n X 1 dX0_neighbour_35 rfl ?_
    refine zv_iload X 3 dX0_neighbour_36 rfl ?_
    refine zv_ciR ((zr_Vl X (As := [.int (a1), .int (a4)]) (rest := []) h (fun a h => wk_X0_areNeighbours l h) (zk_l1 ⟨_, rfl, cwV 2 X.hts (lw_V q1614 q1616 qs42 q102 q1617) rfl rfl rfl ⟨rfl, md_X0_areNeighbours⟩ ⟨Nat.le_of_ble_eq_true rfl, Nat.le_of_ble_eq_true rfl⟩⟩) rfl rfl (zk_rs (Nat.le_of_ble_eq_true rfl)) dX0_neighbour_38 ⟨by first | exact Nat.le_of_ble_eq_true rfl | omega | (dsimp only; omega), by first | exact Nat.le_of_ble_eq_true rfl | omega | (dsimp only; omega)⟩)) (fun v38 h => ?_)
    refine zv_istore X (L' := [(5, .int (v38)), (0, va_rf (a0)), (1, .int (a1)), (3, .int (a3)), (4, .int (a4))]) dX0_neighbour_41 (by decide) rfl ?_
    refine zv_iload X 0 dX0_neighbour_43 rfl ?_
    refine zv_if_eq X (tgt := 55) dX0_neighbour_45 (by decide) h (fun h => ?_) (fun h => ?_)
    · refine zv_sub (L' := [(0, va_rf (a0)), (1, .int (a1)), (3, .int (a3)), (4, .int (a4)), (5, .int (v38))]) [1, 2, 3, 4, 0] rfl ?_
      exact kj_X0_neighbour_55 X hK19 h
    · refine zv_iload_n X 3 dX0_neighbour_48 rfl ?_
      refine zv_if_ne X (tgt := 55) dX0_neighbour_49 (by decide) h (fun h => ?_) (fun h => ?_)
      · refine zv_sub (L' := [(0, va_rf (a0)), (1, .int (a1)), (3, .int (a3)), (4, .int (a4)), (5, .int (v38))]) [1, 2, 3, 4, 0] rfl ?_
        exact kj_X0_neighbour_55 X hK19 h
      · refine zv_iload X 4 dX0_neighbour_52 rfl ?_
        exact zv_iret X rfl (by first | exact Nat.le_of_ble_eq_true rfl | omega | (dsimp only; omega)) (by first | exact Nat.le_of_ble_eq_true rfl | omega | (dsimp only; omega)) dX0_neighbour_54 ⟨h, rfl⟩
theorem kl_X0_neighbour_19 {p : Program} {l : Launch} {e : Env} {s : State} {m : MethodId} {args : Array Value} {below : List Frame} {meth : Method} {c : Code} {D : zk_G} {g : zk_M} {b0 : Nat} (X : zk_X p s m args meth c D g b0 cX0_neighbour 6 "LandFolio" "neighbour" (some Jvm.ClassFile.FieldType.int)) {post : Int32 → Prop}  {a0 : Option Nat} {a1 : Int32} {P : zk_H}   : ∀ (n : Nat) (a3 : Int32) (a4 : Int32), wl_X0_neighbour_19 post a0 a1 P n a3 a4 → zV p l e ({ frames := 5, cells := 0, slots := 0, locals := 107 } : Room) s m args below meth c D b0 6 (0) (0) (MQ below (va_Qi (fun r u => post r ∧ u = P) (zk_B D b0) (zk_A b0)) args s 0 0 (zk_A b0)) P 19 [(0, va_rf (a0)), (1, .int (a1)), (3, .int (a3)), (4, .int (a4))] [] := by
  intro n
  induction n with
  | zero => intro _ _ h; exact h.elim
  | succ n ih =>
    intro a3 a4 h
    exact kb_X0_neighbour_19 X  (fun u0 u1 h => ih _ _ h)  h
theorem md_X0_neighbour : yX0_neighbour.cls ≠ "java/lang/invoke/MethodHandle" ∧ yX0_neighbour.cls ≠ "java/lang/invoke/VarHandle" ∧ (parseMethodDescriptor yX0_neighbour.desc).map (fun d => d.parameters.length) = some 2 := by decide +kernel
theorem wk_X0_neighbour (l : Launch) {D : zk_G} {g : zk_M} {b0 : Nat} {post : Int32 → Prop} {this : Nat} {x1 : Int32} {x2 : Int32} {P : zk_H} (hh : wp_X0_neighbour post this x1 x2 P) : Met l yX0_neighbour (ws_ yX0_neighbour cX0_neighbour 6 (some Jvm.ClassFile.FieldType.int)) ({ frames := 5, cells := 0, slots := 0, locals := 107 } : Room) (va_Pc [.ref this, .int (x1), .int (x2)] (zk_pre D g b0 P)) (va_Qi (fun r u => post r ∧ u = P) (zk_B D b0) (zk_A b0)) 0 0 (zk_A b0) := by
  refine zk_enter "LandFolio" "neighbour" rfl rfl (plainFor_of_name (by decide)) [.ref this, .int (x1), .int (x2)] (Nat.le_of_ble_eq_true rfl) ?_
  intro p e s m args below meth c X
  refine zk_at0 (L' := [(0, va_rf (some this)), (1, .int (x1)), (2, .int (x2))]) (rfl) ?_
  have h := hh
  unfold wp_X0_neighbour at h
  refine zv_aload_n X 0 dX0_neighbour_0 rfl ?_
  refine zv_iload_n X 1 dX0_neighbour_1 rfl ?_
  refine zv_ciR ((zr_Vl X (As := [.int (x1)]) (rest := []) h (fun a h => wk_X0_isParcel l h) (zk_l1 ⟨_, rfl, cwV 1 X.hts (lw_V q1364 q1366 qs33 q102 q1367) rfl rfl rfl ⟨rfl, md_X0_isParcel⟩ ⟨Nat.le_of_ble_eq_true rfl, Nat.le_of_ble_eq_true rfl⟩⟩) rfl rfl (zk_rs (Nat.le_of_ble_eq_true rfl)) dX0_neighbour_2 ⟨by first | exact Nat.le_of_ble_eq_true rfl | omega | (dsimp only; omega), by first | exact Nat.le_of_ble_eq_true rfl | omega | (dsimp only; omega)⟩)) (fun v2 h => ?_)
  refine zv_if_eq X (tgt := 12) dX0_neighbour_5 (by decide) h (fun h => ?_) (fun h => ?_)
  · refine zv_iconst X (v := -1) dX0_neighbour_12 rfl ?_
    exact zv_iret X rfl (by first | exact Nat.le_of_ble_eq_true rfl | omega | (dsimp only; omega)) (by first | exact Nat.le_of_ble_eq_true rfl | omega | (dsimp only; omega)) dX0_neighbour_13 ⟨h, rfl⟩
  · refine zv_iload_n X 2 dX0_neighbour_8 rfl ?_
    refine zv_if_ge X (tgt := 14) dX0_neighbour_9 (by decide) h (fun h => ?_) (fun h => ?_)
    · refine zv_iload_n X 2 dX0_neighbour_14 rfl ?_
      refine zv_istore_n X (i := 3) (L' := [(3, .int (x2)), (0, va_rf (some this)), (1, .int (x1)), (2, .int (x2))]) dX0_neighbour_15 rfl (by decide) rfl ?_
      refine zv_iconst X (v := 0) dX0_neighbour_16 rfl ?_
      refine zv_istore X (L' := [(4, .int (0)), (3, .int (x2)), (0, va_rf (some this)), (1, .int (x1)), (2, .int (x2))]) dX0_neighbour_17 (by decide) rfl ?_
      refine zv_sub (L' := [(0, va_rf (some this)), (1, .int (x1)), (3, .int (x2)), (4, .int (0))]) [2, 3, 1, 0] rfl ?_
      obtain ⟨n17, h⟩ := h
      exact kl_X0_neighbour_19 X  n17 _ _ h
    · refine zv_iconst X (v := -1) dX0_neighbour_12 rfl ?_
      exact zv_iret X rfl (by first | exact Nat.le_of_ble_eq_true rfl | omega | (dsimp only; omega)) (by first | exact Nat.le_of_ble_eq_true rfl | omega | (dsimp only; omega)) dX0_neighbour_13 ⟨h, rfl⟩
theorem md_X0_edge : yX0_edge.cls ≠ "java/lang/invoke/MethodHandle" ∧ yX0_edge.cls ≠ "java/lang/invoke/VarHandle" ∧ (parseMethodDescriptor yX0_edge.desc).map (fun d => d.parameters.length) = some 2 := by decide +kernel
theorem wk_X0_edge (l : Launch) {D : zk_G} {g : zk_M} {b0 : Nat} {post : Int32 → Prop} {this : Nat} {x1 : Int32} {x2 : Int32} {P : zk_H} (hh : wp_X0_edge post this x1 x2 P) : Met l yX0_edge (ws_ yX0_edge cX0_edge 3 (some Jvm.ClassFile.FieldType.int)) ({ frames := 4, cells := 0, slots := 0, locals := 85 } : Room) (va_Pc [.ref this, .int (x1), .int (x2)] (zk_pre D g b0 P)) (va_Qi (fun r u => post r ∧ u = P) (zk_B D b0) (zk_A b0)) 0 0 (zk_A b0) := by
  refine zk_enter "LandFolio" "edge" rfl rfl (plainFor_of_name (by decide)) [.ref this, .int (x1), .int (x2)] (Nat.le_of_ble_eq_true rfl) ?_
  intro p e s m args below meth c X
  refine zk_at0 (L' := [(0, va_rf (some this)), (1, .int (x1)), (2, .int (x2))]) (rfl) ?_
  have h := hh
  unfold wp_X0_edge at h
  refine zv_aload_n X 0 dX0_edge_0 rfl ?_
  refine zv_iload_n X 1 dX0_edge_1 rfl ?_
  refine zv_ciR ((zr_Vl X (As := [.int (x1)]) (rest := []) h (fun a h => wk_X0_isParcel l h) (zk_l1 ⟨_, rfl, cwV 1 X.hts (lw_V q1364 q1366 qs33 q102 q1367) rfl rfl rfl ⟨rfl, md_X0_isParcel⟩ ⟨Nat.le_of_ble_eq_true rfl, Nat.le_of_ble_eq_true rfl⟩⟩) rfl rfl (zk_rs (Nat.le_of_ble_eq_true rfl)) dX0_edge_2 ⟨by first | exact Nat.le_of_ble_eq_true rfl | omega | (dsimp only; omega), by first | exact Nat.le_of_ble_eq_true rfl | omega | (dsimp only; omega)⟩)) (fun v2 h => ?_)
  refine zv_if_eq X (tgt := 38) dX0_edge_5 (by decide) h (fun h => ?_) (fun h => ?_)
  · refine zv_iconst X (v := -1) dX0_edge_38 rfl ?_
    exact zv_iret X rfl (by first | exact Nat.le_of_ble_eq_true rfl | omega | (dsimp only; omega)) (by first | exact Nat.le_of_ble_eq_true rfl | omega | (dsimp only; omega)) dX0_edge_39 ⟨h, rfl⟩
  · refine zv_aload_n X 0 dX0_edge_8 rfl ?_
    refine zv_iload_n X 2 dX0_edge_9 rfl ?_
    refine zv_ciR ((zr_Vl X (As := [.int (x2)]) (rest := []) h (fun a h => wk_X0_isParcel l h) (zk_l1 ⟨_, rfl, cwV 1 X.hts (lw_V q1364 q1366 qs33 q102 q1367) rfl rfl rfl ⟨rfl, md_X0_isParcel⟩ ⟨Nat.le_of_ble_eq_true rfl, Nat.le_of_ble_eq_true rfl⟩⟩) rfl rfl (zk_rs (Nat.le_of_ble_eq_true rfl)) dX0_edge_10 ⟨by first | exact Nat.le_of_ble_eq_true rfl | omega | (dsimp only; omega), by first | exact Nat.le_of_ble_eq_true rfl | omega | (dsimp only; omega)⟩)) (fun v10 h => ?_)
    refine zv_if_eq X (tgt := 38) dX0_edge_13 (by decide) h (fun h => ?_) (fun h => ?_)
    · refine zv_iconst X (v := -1) dX0_edge_38 rfl ?_
      exact zv_iret X rfl (by first | exact Nat.le_of_ble_eq_true rfl | omega | (dsimp only; omega)) (by first | exact Nat.le_of_ble_eq_true rfl | omega | (dsimp only; omega)) dX0_edge_39 ⟨h, rfl⟩
    · refine zv_aload_n X 0 dX0_edge_16 rfl ?_
      refine zv_getf_r X fo_q402 dX0_edge_17 h (fun v17 h => ?_)
      refine zv_iload_n X 1 dX0_edge_20 rfl ?_
      refine zv_cqR ((zr_Vl X (As := [.int (x1)]) (rest := []) h (fun a h => wk_X1_parcel l h) (zk_l1 ⟨_, rfl, cwV 1 X.hts (lw_V q1371 q502 q503 q103 q504) rfl rfl rfl ⟨rfl, md_X1_parcel⟩ ⟨Nat.le_of_ble_eq_true rfl, Nat.le_of_ble_eq_true rfl⟩⟩) rfl rfl (zk_rs (Nat.le_of_ble_eq_true rfl)) dX0_edge_21 ⟨by first | exact Nat.le_of_ble_eq_true rfl | omega | (dsimp only; omega), by first | exact Nat.le_of_ble_eq_true rfl | omega | (dsimp only; omega)⟩)) (fun v21 h => ?_)
      refine zv_aload_n X 0 dX0_edge_24 rfl ?_
      refine zv_getf_r X fo_q402 dX0_edge_25 h (fun v25 h => ?_)
      refine zv_iload_n X 2 dX0_edge_28 rfl ?_
      refine zv_cqR ((zr_Vl X (As := [.int (x2)]) (rest := [va_rf (v21)]) h (fun a h => wk_X1_parcel l h) (zk_l1 ⟨_, rfl, cwV 1 X.hts (lw_V q1371 q502 q503 q103 q504) rfl rfl rfl ⟨rfl, md_X1_parcel⟩ ⟨Nat.le_of_ble_eq_true rfl, Nat.le_of_ble_eq_true rfl⟩⟩) rfl rfl (zk_rs (Nat.le_of_ble_eq_true rfl)) dX0_edge_29 ⟨by first | exact Nat.le_of_ble_eq_true rfl | omega | (dsimp only; omega), by first | exact Nat.le_of_ble_eq_true rfl | omega | (dsimp only; omega)⟩)) (fun v29 h => ?_)
      refine zv_ciR ((zr_Vl X (As := [va_rf (v29)]) (rest := []) h (fun a h => wk_X2_edge l h) (zk_l1 ⟨_, rfl, cwV 1 X.hts (lw_V q1618 q1423 q1424 q111 q1425) rfl rfl rfl ⟨rfl, md_X2_edge⟩ ⟨Nat.le_of_ble_eq_true rfl, Nat.le_of_ble_eq_true rfl⟩⟩) rfl rfl (zk_rs (Nat.le_of_ble_eq_true rfl)) dX0_edge_32 ⟨by first | exact Nat.le_of_ble_eq_true rfl | omega | (dsimp only; omega), by first | exact Nat.le_of_ble_eq_true rfl | omega | (dsimp only; omega)⟩)) (fun v32 h => ?_)
      refine zv_goto X (tgt := 39) dX0_edge_35 (by decide) ?_
      exact zv_iret X rfl (by first | exact Nat.le_of_ble_eq_true rfl | omega | (dsimp only; omega)) (by first | exact Nat.le_of_ble_eq_true rfl | omega | (dsimp only; omega)) dX0_edge_39 ⟨h, rfl⟩
theorem md_X0_letter : yX0_letter.cls ≠ "java/lang/invoke/MethodHandle" ∧ yX0_letter.cls ≠ "java/lang/invoke/VarHandle" ∧ (parseMethodDescriptor yX0_letter.desc).map (fun d => d.parameters.length) = some 2 := by decide +kernel
theorem wk_X0_letter (l : Launch) {D : zk_G} {g : zk_M} {b0 : Nat} {post : Int32 → Prop} {this : Nat} {x1 : Int32} {x2 : Int32} {P : zk_H} (hh : wp_X0_letter g post this x1 x2 P) : Met l yX0_letter (ws_ yX0_letter cX0_letter 4 (some Jvm.ClassFile.FieldType.int)) ({ frames := 4, cells := 0, slots := 0, locals := 85 } : Room) (va_Pc [.ref this, .int (x1), .int (x2)] (zk_pre D g b0 P)) (va_Qi (fun r u => post r ∧ u = P) (zk_B D b0) (zk_A b0)) 0 0 (zk_A b0) := by
  refine zk_enter "LandFolio" "letter" rfl rfl (plainFor_of_name (by decide)) [.ref this, .int (x1), .int (x2)] (Nat.le_of_ble_eq_true rfl) ?_
  intro p e s m args below meth c X
  refine zk_at0 (L' := [(0, va_rf (some this)), (1, .int (x1)), (2, .int (x2))]) (rfl) ?_
  have h := hh
  unfold wp_X0_letter at h
  refine zv_aload_n X 0 dX0_letter_0 rfl ?_
  refine zv_iload_n X 1 dX0_letter_1 rfl ?_
  refine zv_ciR ((zr_Vl X (As := [.int (x1)]) (rest := []) h (fun a h => wk_X0_isOwner l h) (zk_l1 ⟨_, rfl, cwV 1 X.hts (lw_V q1350 q1352 qs31 q102 q1353) rfl rfl rfl ⟨rfl, md_X0_isOwner⟩ ⟨Nat.le_of_ble_eq_true rfl, Nat.le_of_ble_eq_true rfl⟩⟩) rfl rfl (zk_rs (Nat.le_of_ble_eq_true rfl)) dX0_letter_2 ⟨by first | exact Nat.le_of_ble_eq_true rfl | omega | (dsimp only; omega), by first | exact Nat.le_of_ble_eq_true rfl | omega | (dsimp only; omega)⟩)) (fun v2 h => ?_)
  refine zv_if_eq X (tgt := 12) dX0_letter_5 (by decide) h (fun h => ?_) (fun h => ?_)
  · refine zv_iconst X (v := -1) dX0_letter_12 rfl ?_
    exact zv_iret X rfl (by first | exact Nat.le_of_ble_eq_true rfl | omega | (dsimp only; omega)) (by first | exact Nat.le_of_ble_eq_true rfl | omega | (dsimp only; omega)) dX0_letter_13 ⟨h, rfl⟩
  · refine zv_iload_n X 2 dX0_letter_8 rfl ?_
    refine zv_if_ge X (tgt := 14) dX0_letter_9 (by decide) h (fun h => ?_) (fun h => ?_)
    · refine zv_aload_n X 0 dX0_letter_14 rfl ?_
      refine zv_getf_r X fo_q402 dX0_letter_15 h (fun v15 h => ?_)
      refine zv_getf_r X fo_q192 dX0_letter_18 h (fun v18 h => ?_)
      refine zv_iload_n X 1 dX0_letter_21 rfl ?_
      refine zv_cqR ((zr_Vl X (As := [.int (x1)]) (rest := []) h (fun a h => wk_J2_get l h) (zk_l1 ⟨_, rfl, cwV 1 X.hts (lw_V q1771 q506 q507 q106 q508) rfl rfl rfl ⟨rfl, md_J2_get⟩ ⟨Nat.le_of_ble_eq_true rfl, Nat.le_of_ble_eq_true rfl⟩⟩) rfl rfl (zk_rs (Nat.le_of_ble_eq_true rfl)) dX0_letter_22 ⟨by first | exact Nat.le_of_ble_eq_true rfl | omega | (dsimp only; omega), by first | exact Nat.le_of_ble_eq_true rfl | omega | (dsimp only; omega)⟩)) (fun v22 h => ?_)
      refine zv_cast X zk_cs3 q1355 dX0_letter_25 h (fun h => ?_)
      refine zv_astore_n X (i := 3) (L' := [(3, va_rf (v22)), (0, va_rf (some this)), (1, .int (x1)), (2, .int (x2))]) dX0_letter_28 rfl (by decide) rfl ?_
      refine zv_iload_n X 3 dX0_letter_29 rfl ?_
      refine zv_aload_n X 0 dX0_letter_30 rfl ?_
      refine zv_ciR ((zr_Vl X (As := []) (rest := [.int (x2)]) h (fun a h => wk_J9_length l h) (zk_l1 ⟨_, rfl, cwV 0 X.hts (lw_V q993 q994 q995 q118 q996) rfl rfl rfl ⟨rfl, md_J9_length⟩ ⟨Nat.le_of_ble_eq_true rfl, Nat.le_of_ble_eq_true rfl⟩⟩) rfl rfl (zk_rs (Nat.le_of_ble_eq_true rfl)) dX0_letter_31 ⟨by first | exact Nat.le_of_ble_eq_true rfl | omega | (dsimp only; omega), by first | exact Nat.le_of_ble_eq_true rfl | omega | (dsimp only; omega)⟩)) (fun v31 h => ?_)
      refine zv_icmp_ge X (tgt := 50) dX0_letter_34 (by decide) h (fun h => ?_) (fun h => ?_)
      · refine zv_bipush X (v := -2) dX0_letter_50 rfl ?_
        exact zv_iret X rfl (by first | exact Nat.le_of_ble_eq_true rfl | omega | (dsimp only; omega)) (by first | exact Nat.le_of_ble_eq_true rfl | omega | (dsimp only; omega)) dX0_letter_52 ⟨h, rfl⟩
      · refine zv_aload_n X 0 dX0_letter_37 rfl ?_
        refine zv_iload_n X 3 dX0_letter_38 rfl ?_
        refine zv_ciR ((zr_Vl X (As := [.int (x2)]) (rest := []) h (fun a h => wk_J9_charAt l h) (zk_l1 ⟨_, rfl, cwV 1 X.hts (lw_V q1772 q1773 q1774 q118 q1775) rfl rfl rfl ⟨rfl, md_J9_charAt⟩ ⟨Nat.le_of_ble_eq_true rfl, Nat.le_of_ble_eq_true rfl⟩⟩) rfl rfl (zk_rs (Nat.le_of_ble_eq_true rfl)) dX0_letter_39 ⟨by first | exact Nat.le_of_ble_eq_true rfl | omega | (dsimp only; omega), by first | exact Nat.le_of_ble_eq_true rfl | omega | (dsimp only; omega)⟩)) (fun v39 h => ?_)
        refine zv_bipush X (v := 97) dX0_letter_42 rfl ?_
        refine zv_isub X dX0_letter_44 ?_
        refine zv_iconst X (v := 1) dX0_letter_45 rfl ?_
        refine zv_iadd X dX0_letter_46 ?_
        refine zv_goto X (tgt := 52) dX0_letter_47 (by decide) ?_
        exact zv_iret X rfl (by first | exact Nat.le_of_ble_eq_true rfl | omega | (dsimp only; omega)) (by first | exact Nat.le_of_ble_eq_true rfl | omega | (dsimp only; omega)) dX0_letter_52 ⟨h, rfl⟩
    · refine zv_iconst X (v := -1) dX0_letter_12 rfl ?_
      exact zv_iret X rfl (by first | exact Nat.le_of_ble_eq_true rfl | omega | (dsimp only; omega)) (by first | exact Nat.le_of_ble_eq_true rfl | omega | (dsimp only; omega)) dX0_letter_13 ⟨h, rfl⟩
theorem kj_X0_over_99 {p : Program} {l : Launch} {e : Env} {s : State} {m : MethodId} {args : Array Value} {below : List Frame} {meth : Method} {c : Code} {D : zk_G} {g : zk_M} {b0 : Nat} (X : zk_X p s m args meth c D g b0 cX0_over 6 "LandFolio" "over" (some Jvm.ClassFile.FieldType.int)) {post : Int32 → Prop} {K5 : Int32 → Int32 → Prop} {a0 : Option Nat} {a1 : Int32} {a2 : Int32} {a4 : Int32} {s0 : Int32} {s1 : Int32} {P : zk_H}  (hK5 : ∀ (u3 : Int32) (u4 : Int32), K5 u3 u4 → zV p l e ({ frames := 5, cells := 0, slots := 0, locals := 110 } : Room) s m args below meth c D b0 6 (0) (0) (MQ below (va_Qi (fun r u => post r ∧ u = P) (zk_B D b0) (zk_A b0)) args s 0 0 (zk_A b0)) P 5 [(0, va_rf (a0)), (1, .int (a1)), (2, .int (a2)), (3, .int (u3)), (4, .int (u4))] [])  (hh : wj_X0_over_99 post K5 a0 a1 a2 a4 s0 s1 P) : zV p l e ({ frames := 5, cells := 0, slots := 0, locals := 110 } : Room) s m args below meth c D b0 6 (0) (0) (MQ below (va_Qi (fun r u => post r ∧ u = P) (zk_B D b0) (zk_A b0)) args s 0 0 (zk_A b0)) P 99 [(0, va_rf (a0)), (1, .int (a1)), (2, .int (a2)), (4, .int (a4))] [.int (s0), .int (s1)] := by
  have h := hh
  unfold wj_X0_over_99 at h
  refine zv_iadd X dX0_over_99 ?_
  refine zv_top_i h (fun v100 h => ?_)
  refine zv_istore_n X (i := 3) (L' := [(3, .int (v100)), (0, va_rf (a0)), (1, .int (a1)), (2, .int (a2)), (4, .int (a4))]) dX0_over_100 rfl (by decide) rfl ?_
  obtain ⟨v101, e101, h⟩ := zt_e h
  refine zv_iinc X (v := v101) (L' := [(4, .int (v101)), (3, .int (v100)), (0, va_rf (a0)), (1, .int (a1)), (2, .int (a2))]) 4 dX0_over_101 rfl e101 (by decide) rfl ?_
  refine zv_goto X (tgt := 5) dX0_over_104 (by decide) ?_
  refine zv_sub (L' := [(0, va_rf (a0)), (1, .int (a1)), (2, .int (a2)), (3, .int (v100)), (4, .int (v101))]) [2, 3, 4, 1, 0] rfl ?_
  exact hK5 _ _ h
theorem kj_X0_over_91 {p : Program} {l : Launch} {e : Env} {s : State} {m : MethodId} {args : Array Value} {below : List Frame} {meth : Method} {c : Code} {D : zk_G} {g : zk_M} {b0 : Nat} (X : zk_X p s m args meth c D g b0 cX0_over 6 "LandFolio" "over" (some Jvm.ClassFile.FieldType.int)) {post : Int32 → Prop} {K5 : Int32 → Int32 → Prop} {a0 : Option Nat} {a1 : Int32} {a2 : Int32} {a4 : Int32} {s0 : Int32} {s1 : Int32} {s2 : Int32} {P : zk_H}  (hK5 : ∀ (u3 : Int32) (u4 : Int32), K5 u3 u4 → zV p l e ({ frames := 5, cells := 0, slots := 0, locals := 110 } : Room) s m args below meth c D b0 6 (0) (0) (MQ below (va_Qi (fun r u => post r ∧ u = P) (zk_B D b0) (zk_A b0)) args s 0 0 (zk_A b0)) P 5 [(0, va_rf (a0)), (1, .int (a1)), (2, .int (a2)), (3, .int (u3)), (4, .int (u4))] [])  (hh : wj_X0_over_91 post K5 a0 a1 a2 a4 s0 s1 s2 P) : zV p l e ({ frames := 5, cells := 0, slots := 0, locals := 110 } : Room) s m args below meth c D b0 6 (0) (0) (MQ below (va_Qi (fun r u => post r ∧ u = P) (zk_B D b0) (zk_A b0)) args s 0 0 (zk_A b0)) P 91 [(0, va_rf (a0)), (1, .int (a1)), (2, .int (a2)), (4, .int (a4))] [.int (s0), .int (s1), .int (s2)] := by
  have h := hh
  unfold wj_X0_over_91 at h
  refine zv_icmp_le X (tgt := 98) dX0_over_91 (by decide) h (fun h => ?_) (fun h => ?_)
  · refine zv_iconst X (v := 0) dX0_over_98 rfl ?_
    exact kj_X0_over_99 X hK5 h
  · refine zv_iconst X (v := 1) dX0_over_94 rfl ?_
    refine zv_goto X (tgt := 99) dX0_over_95 (by decide) ?_
    exact kj_X0_over_99 X hK5 h
theorem kj_X0_over_53 {p : Program} {l : Launch} {e : Env} {s : State} {m : MethodId} {args : Array Value} {below : List Frame} {meth : Method} {c : Code} {D : zk_G} {g : zk_M} {b0 : Nat} (X : zk_X p s m args meth c D g b0 cX0_over 6 "LandFolio" "over" (some Jvm.ClassFile.FieldType.int)) {post : Int32 → Prop} {K5 : Int32 → Int32 → Prop} {a0 : Option Nat} {a1 : Int32} {a2 : Int32} {a3 : Int32} {a4 : Int32} {s0 : Int32} {P : zk_H}  (hK5 : ∀ (u3 : Int32) (u4 : Int32), K5 u3 u4 → zV p l e ({ frames := 5, cells := 0, slots := 0, locals := 110 } : Room) s m args below meth c D b0 6 (0) (0) (MQ below (va_Qi (fun r u => post r ∧ u = P) (zk_B D b0) (zk_A b0)) args s 0 0 (zk_A b0)) P 5 [(0, va_rf (a0)), (1, .int (a1)), (2, .int (a2)), (3, .int (u3)), (4, .int (u4))] [])  (hh : wj_X0_over_53 post K5 a0 a1 a2 a3 a4 s0 P) : zV p l e ({ frames := 5, cells := 0, slots := 0, locals := 110 } : Room) s m args below meth c D b0 6 (0) (0) (MQ below (va_Qi (fun r u => post r ∧ u = P) (zk_B D b0) (zk_A b0)) args s 0 0 (zk_A b0)) P 53 [(0, va_rf (a0)), (1, .int (a1)), (2, .int (a2)), (3, .int (a3)), (4, .int (a4))] [.int (s0)] := by
  have h := hh
  unfold wj_X0_over_53 at h
  refine zv_istore X (L' := [(5, .int (s0)), (0, va_rf (a0)), (1, .int (a1)), (2, .int (a2)), (3, .int (a3)), (4, .int (a4))]) dX0_over_53 (by decide) rfl ?_
  refine zv_iload_n X 4 dX0_over_55 rfl ?_
  refine zv_iload_n X 3 dX0_over_56 rfl ?_
  refine zv_iconst X (v := 1) dX0_over_57 rfl ?_
  refine zv_icmp_ne X (tgt := 79) dX0_over_58 (by decide) h (fun h => ?_) (fun h => ?_)
  · refine zv_iload X 0 dX0_over_79 rfl ?_
    refine zv_iload_n X 3 dX0_over_81 rfl ?_
    refine zv_if_ne X (tgt := 89) dX0_over_82 (by decide) h (fun h => ?_) (fun h => ?_)
    · refine zv_bipush X (v := 11) dX0_over_89 rfl ?_
      refine zv_sub (L' := [(0, va_rf (a0)), (1, .int (a1)), (2, .int (a2)), (4, .int (a4))]) [1, 2, 3, 5] rfl ?_
      exact kj_X0_over_91 X hK5 h
    · refine zv_iconst X (v := 0) dX0_over_85 rfl ?_
      refine zv_goto X (tgt := 91) dX0_over_86 (by decide) ?_
      refine zv_sub (L' := [(0, va_rf (a0)), (1, .int (a1)), (2, .int (a2)), (4, .int (a4))]) [1, 2, 3, 5] rfl ?_
      exact kj_X0_over_91 X hK5 h
  · refine zv_iload X 0 dX0_over_61 rfl ?_
    refine zv_aload_n X 1 dX0_over_63 rfl ?_
    refine zv_getf_r X fo_q402 dX0_over_64 h (fun v64 h => ?_)
    refine zv_iload X 5 dX0_over_67 rfl ?_
    refine zv_cqR ((zr_Vl X (As := [.int (a4)]) (rest := [.int (s0), .int (a3)]) h (fun a h => wk_X1_parcel l h) (zk_l1 ⟨_, rfl, cwV 1 X.hts (lw_V q1371 q502 q503 q103 q504) rfl rfl rfl ⟨rfl, md_X1_parcel⟩ ⟨Nat.le_of_ble_eq_true rfl, Nat.le_of_ble_eq_true rfl⟩⟩) rfl rfl (zk_rs (Nat.le_of_ble_eq_true rfl)) dX0_over_69 ⟨by first | exact Nat.le_of_ble_eq_true rfl | omega | (dsimp only; omega), by first | exact Nat.le_of_ble_eq_true rfl | omega | (dsimp only; omega)⟩)) (fun v69 h => ?_)
    refine zv_ciR ((zr_Vl X (As := []) (rest := [.int (s0), .int (a3)]) h (fun a h => wk_X2_area l h) (zk_l1 ⟨_, rfl, cwV 0 X.hts (lw_V q1623 q1546 q1547 q111 q1548) rfl rfl rfl ⟨rfl, md_X2_area⟩ ⟨Nat.le_of_ble_eq_true rfl, Nat.le_of_ble_eq_true rfl⟩⟩) rfl rfl (zk_rs (Nat.le_of_ble_eq_true rfl)) dX0_over_72 ⟨by first | exact Nat.le_of_ble_eq_true rfl | omega | (dsimp only; omega), by first | exact Nat.le_of_ble_eq_true rfl | omega | (dsimp only; omega)⟩)) (fun v72 h => ?_)
    refine zv_imul X dX0_over_75 ?_
    refine zv_goto X (tgt := 99) dX0_over_76 (by decide) ?_
    refine zv_sub (L' := [(0, va_rf (a0)), (1, .int (a1)), (2, .int (a2)), (4, .int (a4))]) [1, 2, 3, 5] rfl ?_
    exact kj_X0_over_99 X hK5 h
theorem kb_X0_over_5 {p : Program} {l : Launch} {e : Env} {s : State} {m : MethodId} {args : Array Value} {below : List Frame} {meth : Method} {c : Code} {D : zk_G} {g : zk_M} {b0 : Nat} (X : zk_X p s m args meth c D g b0 cX0_over 6 "LandFolio" "over" (some Jvm.ClassFile.FieldType.int)) {post : Int32 → Prop}  {K5 : Int32 → Int32 → Prop} {a0 : Option Nat} {a1 : Int32} {a2 : Int32} {a3 : Int32} {a4 : Int32} {P : zk_H}   (hK5 : ∀ (u3 : Int32) (u4 : Int32), K5 u3 u4 → zV p l e ({ frames := 5, cells := 0, slots := 0, locals := 110 } : Room) s m args below meth c D b0 6 (0) (0) (MQ below (va_Qi (fun r u => post r ∧ u = P) (zk_B D b0) (zk_A b0)) args s 0 0 (zk_A b0)) P 5 [(0, va_rf (a0)), (1, .int (a1)), (2, .int (a2)), (3, .int (u3)), (4, .int (u4))] [])  (hh : wb_X0_over_5 post a0 a1 a2 P K5 a3 a4) : zV p l e ({ frames := 5, cells := 0, slots := 0, locals := 110 } : Room) s m args below meth c D b0 6 (0) (0) (MQ below (va_Qi (fun r u => post r ∧ u = P) (zk_B D b0) (zk_A b0)) args s 0 0 (zk_A b0)) P 5 [(0, va_rf (a0)), (1, .int (a1)), (2, .int (a2)), (3, .int (a3)), (4, .int (a4))] [] := by
  have h := hh
  unfold wb_X0_over_5 at h
  refine zv_iload X 4 dX0_over_5 rfl ?_
  refine zv_aload_n X 0 dX0_over_7 rfl ?_
  refine zv_getf_r X fo_q402 dX0_over_8 h (fun v8 h => ?_)
  refine zv_getf_r X fo_q195 dX0_over_11 h (fun v11 h => ?_)
  refine zv_ciR ((zr_Vl X (As := []) (rest := [.int (a4)]) h (fun a h => wk_J2_size l h) (zk_l1 ⟨_, rfl, cwV 0 X.hts (lw_V q672 q362 q363 q106 q364) rfl rfl rfl ⟨rfl, md_J2_size⟩ ⟨Nat.le_of_ble_eq_true rfl, Nat.le_of_ble_eq_true rfl⟩⟩) rfl rfl (zk_rs (Nat.le_of_ble_eq_true rfl)) dX0_over_14 ⟨by first | exact Nat.le_of_ble_eq_true rfl | omega | (dsimp only; omega), by first | exact Nat.le_of_ble_eq_true rfl | omega | (dsimp only; omega)⟩)) (fun v14 h => ?_)
  refine zv_icmp_ge X (tgt := 107) dX0_over_17 (by decide) h (fun h => ?_) (fun h => ?_)
  · refine zv_iload_n X 3 dX0_over_107 rfl ?_
    exact zv_iret X rfl (by first | exact Nat.le_of_ble_eq_true rfl | omega | (dsimp only; omega)) (by first | exact Nat.le_of_ble_eq_true rfl | omega | (dsimp only; omega)) dX0_over_108 ⟨h, rfl⟩
  · refine zv_aload_n X 0 dX0_over_20 rfl ?_
    refine zv_getf_r X fo_q402 dX0_over_21 h (fun v21 h => ?_)
    refine zv_iload X 4 dX0_over_24 rfl ?_
    refine zv_cqR ((zr_Vl X (As := [.int (a4)]) (rest := []) h (fun a h => wk_X1_parcel l h) (zk_l1 ⟨_, rfl, cwV 1 X.hts (lw_V q1371 q502 q503 q103 q504) rfl rfl rfl ⟨rfl, md_X1_parcel⟩ ⟨Nat.le_of_ble_eq_true rfl, Nat.le_of_ble_eq_true rfl⟩⟩) rfl rfl (zk_rs (Nat.le_of_ble_eq_true rfl)) dX0_over_26 ⟨by first | exact Nat.le_of_ble_eq_true rfl | omega | (dsimp only; omega), by first | exact Nat.le_of_ble_eq_true rfl | omega | (dsimp only; omega)⟩)) (fun v26 h => ?_)
    refine zv_ciR ((zr_Vl X (As := []) (rest := []) h (fun a h => wk_X2_isLive l h) (zk_l1 ⟨_, rfl, cwV 0 X.hts (lw_V q1570 q1177 q1178 q111 q1179) rfl rfl rfl ⟨rfl, md_X2_isLive⟩ ⟨Nat.le_of_ble_eq_true rfl, Nat.le_of_ble_eq_true rfl⟩⟩) rfl rfl (zk_rs (Nat.le_of_ble_eq_true rfl)) dX0_over_29 ⟨by first | exact Nat.le_of_ble_eq_true rfl | omega | (dsimp only; omega), by first | exact Nat.le_of_ble_eq_true rfl | omega | (dsimp only; omega)⟩)) (fun v29 h => ?_)
    refine zv_if_eq X (tgt := 52) dX0_over_32 (by decide) h (fun h => ?_) (fun h => ?_)
    · refine zv_iconst X (v := 0) dX0_over_52 rfl ?_
      exact kj_X0_over_53 X hK5 h
    · refine zv_aload_n X 0 dX0_over_35 rfl ?_
      refine zv_getf_r X fo_q402 dX0_over_36 h (fun v36 h => ?_)
      refine zv_iload X 4 dX0_over_39 rfl ?_
      refine zv_cqR ((zr_Vl X (As := [.int (a4)]) (rest := []) h (fun a h => wk_X1_deed l h) (zk_l1 ⟨_, rfl, cwV 1 X.hts (lw_V q1460 q1190 q1191 q103 q1192) rfl rfl rfl ⟨rfl, md_X1_deed⟩ ⟨Nat.le_of_ble_eq_true rfl, Nat.le_of_ble_eq_true rfl⟩⟩) rfl rfl (zk_rs (Nat.le_of_ble_eq_true rfl)) dX0_over_41 ⟨by first | exact Nat.le_of_ble_eq_true rfl | omega | (dsimp only; omega), by first | exact Nat.le_of_ble_eq_true rfl | omega | (dsimp only; omega)⟩)) (fun v41 h => ?_)
      refine zv_getf_r X fo_q376 dX0_over_44 h (fun v44 h => ?_)
      refine zv_iload_n X 1 dX0_over_47 rfl ?_
      refine zv_iald X dX0_over_48 h (fun v48 h => ?_)
      refine zv_goto X (tgt := 53) dX0_over_49 (by decide) ?_
      exact kj_X0_over_53 X hK5 h
theorem kl_X0_over_5 {p : Program} {l : Launch} {e : Env} {s : State} {m : MethodId} {args : Array Value} {below : List Frame} {meth : Method} {c : Code} {D : zk_G} {g : zk_M} {b0 : Nat} (X : zk_X p s m args meth c D g b0 cX0_over 6 "LandFolio" "over" (some Jvm.ClassFile.FieldType.int)) {post : Int32 → Prop}  {a0 : Option Nat} {a1 : Int32} {a2 : Int32} {P : zk_H}   : ∀ (n : Nat) (a3 : Int32) (a4 : Int32), wl_X0_over_5 post a0 a1 a2 P n a3 a4 → zV p l e ({ frames := 5, cells := 0, slots := 0, locals := 110 } : Room) s m args below meth c D b0 6 (0) (0) (MQ below (va_Qi (fun r u => post r ∧ u = P) (zk_B D b0) (zk_A b0)) args s 0 0 (zk_A b0)) P 5 [(0, va_rf (a0)), (1, .int (a1)), (2, .int (a2)), (3, .int (a3)), (4, .int (a4))] [] := by
  intro n
  induction n with
  | zero => intro _ _ h; exact h.elim
  | succ n ih =>
    intro a3 a4 h
    exact kb_X0_over_5 X  (fun u0 u1 h => ih _ _ h)  h
theorem md_X0_over : yX0_over.cls ≠ "java/lang/invoke/MethodHandle" ∧ yX0_over.cls ≠ "java/lang/invoke/VarHandle" ∧ (parseMethodDescriptor yX0_over.desc).map (fun d => d.parameters.length) = some 2 := by decide +kernel
theorem wk_X0_over (l : Launch) {D : zk_G} {g : zk_M} {b0 : Nat} {post : Int32 → Prop} {this : Nat} {x1 : Int32} {x2 : Int32} {P : zk_H} (hh : wp_X0_over post this x1 x2 P) : Met l yX0_over (ws_ yX0_over cX0_over 6 (some Jvm.ClassFile.FieldType.int)) ({ frames := 5, cells := 0, slots := 0, locals := 110 } : Room) (va_Pc [.ref this, .int (x1), .int (x2)] (zk_pre D g b0 P)) (va_Qi (fun r u => post r ∧ u = P) (zk_B D b0) (zk_A b0)) 0 0 (zk_A b0) := by
  refine zk_enter "LandFolio" "over" rfl rfl (plainFor_of_name (by decide)) [.ref this, .int (x1), .int (x2)] (Nat.le_of_ble_eq_true rfl) ?_
  intro p e s m args below meth c X
  refine zk_at0 (L' := [(0, va_rf (some this)), (1, .int (x1)), (2, .int (x2))]) (rfl) ?_
  have h := hh
  unfold wp_X0_over at h
  refine zv_iconst X (v := 0) dX0_over_0 rfl ?_
  refine zv_istore_n X (i := 3) (L' := [(3, .int (0)), (0, va_rf (some this)), (1, .int (x1)), (2, .int (x2))]) dX0_over_1 rfl (by decide) rfl ?_
  refine zv_iconst X (v := 0) dX0_over_2 rfl ?_
  refine zv_istore X (L' := [(4, .int (0)), (3, .int (0)), (0, va_rf (some this)), (1, .int (x1)), (2, .int (x2))]) dX0_over_3 (by decide) rfl ?_
  refine zv_sub (L' := [(0, va_rf (some this)), (1, .int (x1)), (2, .int (x2)), (3, .int (0)), (4, .int (0))]) [2, 3, 4, 1, 0] rfl ?_
  obtain ⟨n3, h⟩ := h
  exact kl_X0_over_5 X  n3 _ _ h
