/-! walks, printed by gen/run.py -/
theorem kj_X0_held_62 {p : Program} {l : Launch} {e : Env} {s : State} {m : MethodId} {args : Array Value} {below : List Frame} {meth : Method} {c : Code} {D : zk_G} {g : zk_M} {b0 : Nat} (X : zk_X p s m args meth c D g b0 cX0_held 6 "LandFolio" "held" (some Jvm.ClassFile.FieldType.int)) {post : Int32 → Prop} {K4 : Int32 → Int32 → Prop} {a0 : Option Nat} {a1 : Int32} {a3 : Int32} {s0 : Int32} {s1 : Int32} {P : zk_H}  (hK4 : ∀ (u2 : Int32) (u3 : Int32), K4 u2 u3 → zV p l e ({ frames := 4, cells := 0, slots := 0, locals := 85 } : Room) s m args below meth c D b0 6 (0) (0) (MQ below (va_Qi (fun r u => post r ∧ u = P) (zk_B D b0) (zk_A b0)) args s 0 0 (zk_A b0)) P 4 [(0, va_rf (a0)), (1, .int (a1)), (2, .int (u2)), (3, .int (u3))] [])  (hh : wj_X0_held_62 post K4 a0 a1 a3 s0 s1 P) : zV p l e ({ frames := 4, cells := 0, slots := 0, locals := 85 } : Room) s m args below meth c D b0 6 (0) (0) (MQ below (va_Qi (fun r u => post r ∧ u = P) (zk_B D b0) (zk_A b0)) args s 0 0 (zk_A b0)) P 62 [(0, va_rf (a0)), (1, .int (a1)), (3, .int (a3))] [.int (s0), .int (s1)] := by
  have h := hh
  unfold wj_X0_held_62 at h
  refine zv_iadd X dX0_held_62 ?_
  refine zv_top_i h (fun v63 h => ?_)
  refine zv_istore_n X (i := 2) (L' := [(2, .int (v63)), (0, va_rf (a0)), (1, .int (a1)), (3, .int (a3))]) dX0_held_63 rfl (by decide) rfl ?_
  obtain ⟨v64, e64, h⟩ := zt_e h
  refine zv_iinc X (v := v64) (L' := [(3, .int (v64)), (2, .int (v63)), (0, va_rf (a0)), (1, .int (a1))]) 3 dX0_held_64 rfl e64 (by decide) rfl ?_
  refine zv_goto X (tgt := 4) dX0_held_67 (by decide) ?_
  refine zv_sub (L' := [(0, va_rf (a0)), (1, .int (a1)), (2, .int (v63)), (3, .int (v64))]) [2, 3, 1, 0] rfl ?_
  exact hK4 _ _ h
theorem kj_X0_held_61 {p : Program} {l : Launch} {e : Env} {s : State} {m : MethodId} {args : Array Value} {below : List Frame} {meth : Method} {c : Code} {D : zk_G} {g : zk_M} {b0 : Nat} (X : zk_X p s m args meth c D g b0 cX0_held 6 "LandFolio" "held" (some Jvm.ClassFile.FieldType.int)) {post : Int32 → Prop} {K4 : Int32 → Int32 → Prop} {a0 : Option Nat} {a1 : Int32} {a3 : Int32} {s0 : Int32} {P : zk_H}  (hK4 : ∀ (u2 : Int32) (u3 : Int32), K4 u2 u3 → zV p l e ({ frames := 4, cells := 0, slots := 0, locals := 85 } : Room) s m args below meth c D b0 6 (0) (0) (MQ below (va_Qi (fun r u => post r ∧ u = P) (zk_B D b0) (zk_A b0)) args s 0 0 (zk_A b0)) P 4 [(0, va_rf (a0)), (1, .int (a1)), (2, .int (u2)), (3, .int (u3))] [])  (hh : wj_X0_held_61 post K4 a0 a1 a3 s0 P) : zV p l e ({ frames := 4, cells := 0, slots := 0, locals := 85 } : Room) s m args below meth c D b0 6 (0) (0) (MQ below (va_Qi (fun r u => post r ∧ u = P) (zk_B D b0) (zk_A b0)) args s 0 0 (zk_A b0)) P 61 [(0, va_rf (a0)), (1, .int (a1)), (3, .int (a3))] [.int (s0)] := by
  have h := hh
  unfold wj_X0_held_61 at h
  refine zv_iconst X (v := 0) dX0_held_61 rfl ?_
  exact kj_X0_held_62 X hK4 h
theorem kb_X0_held_4 {p : Program} {l : Launch} {e : Env} {s : State} {m : MethodId} {args : Array Value} {below : List Frame} {meth : Method} {c : Code} {D : zk_G} {g : zk_M} {b0 : Nat} (X : zk_X p s m args meth c D g b0 cX0_held 6 "LandFolio" "held" (some Jvm.ClassFile.FieldType.int)) {post : Int32 → Prop}  {K4 : Int32 → Int32 → Prop} {a0 : Option Nat} {a1 : Int32} {a2 : Int32} {a3 : Int32} {P : zk_H}   (hK4 : ∀ (u2 : Int32) (u3 : Int32), K4 u2 u3 → zV p l e ({ frames := 4, cells := 0, slots := 0, locals := 85 } : Room) s m args below meth c D b0 6 (0) (0) (MQ below (va_Qi (fun r u => post r ∧ u = P) (zk_B D b0) (zk_A b0)) args s 0 0 (zk_A b0)) P 4 [(0, va_rf (a0)), (1, .int (a1)), (2, .int (u2)), (3, .int (u3))] [])  (hh : wb_X0_held_4 post a0 a1 P K4 a2 a3) : zV p l e ({ frames := 4, cells := 0, slots := 0, locals := 85 } : Room) s m args below meth c D b0 6 (0) (0) (MQ below (va_Qi (fun r u => post r ∧ u = P) (zk_B D b0) (zk_A b0)) args s 0 0 (zk_A b0)) P 4 [(0, va_rf (a0)), (1, .int (a1)), (2, .int (a2)), (3, .int (a3))] [] := by
  have h := hh
  unfold wb_X0_held_4 at h
  refine zv_iload_n X 3 dX0_held_4 rfl ?_
  refine zv_aload_n X 0 dX0_held_5 rfl ?_
  refine zv_getf_r X fo_q402 dX0_held_6 h (fun v6 h => ?_)
  refine zv_getf_r X fo_q201 dX0_held_9 h (fun v9 h => ?_)
  refine zv_ciR ((zr_Vl X (As := []) (rest := [.int (a3)]) h (fun a h => wk_J2_size l h) (zk_l1 ⟨_, rfl, cwV 0 X.hts (lw_V q672 q362 q363 q106 q364) rfl rfl rfl ⟨rfl, md_J2_size⟩ ⟨Nat.le_of_ble_eq_true rfl, Nat.le_of_ble_eq_true rfl⟩⟩) rfl rfl (zk_rs (Nat.le_of_ble_eq_true rfl)) dX0_held_12 ⟨by first | exact Nat.le_of_ble_eq_true rfl | omega | (dsimp only; omega), by first | exact Nat.le_of_ble_eq_true rfl | omega | (dsimp only; omega)⟩)) (fun v12 h => ?_)
  refine zv_icmp_ge X (tgt := 70) dX0_held_15 (by decide) h (fun h => ?_) (fun h => ?_)
  · refine zv_iload_n X 2 dX0_held_70 rfl ?_
    exact zv_iret X rfl (by first | exact Nat.le_of_ble_eq_true rfl | omega | (dsimp only; omega)) (by first | exact Nat.le_of_ble_eq_true rfl | omega | (dsimp only; omega)) dX0_held_71 ⟨h, rfl⟩
  · refine zv_iload_n X 2 dX0_held_18 rfl ?_
    refine zv_aload_n X 0 dX0_held_19 rfl ?_
    refine zv_getf_r X fo_q402 dX0_held_20 h (fun v20 h => ?_)
    refine zv_iload_n X 3 dX0_held_23 rfl ?_
    refine zv_cqR ((zr_Vl X (As := [.int (a3)]) (rest := [.int (a2)]) h (fun a h => wk_X1_burden l h) (zk_l1 ⟨_, rfl, cwV 1 X.hts (lw_V q1496 q526 q527 q103 q528) rfl rfl rfl ⟨rfl, md_X1_burden⟩ ⟨Nat.le_of_ble_eq_true rfl, Nat.le_of_ble_eq_true rfl⟩⟩) rfl rfl (zk_rs (Nat.le_of_ble_eq_true rfl)) dX0_held_24 ⟨by first | exact Nat.le_of_ble_eq_true rfl | omega | (dsimp only; omega), by first | exact Nat.le_of_ble_eq_true rfl | omega | (dsimp only; omega)⟩)) (fun v24 h => ?_)
    refine zv_astore X (L' := [(5, va_rf (v24)), (0, va_rf (a0)), (1, .int (a1)), (2, .int (a2)), (3, .int (a3))]) dX0_held_27 (by decide) rfl ?_
    refine zv_aload X 0 dX0_held_29 rfl ?_
    refine zv_inst X zk_cs7 (zk_l1 ⟨_, rfl, X.nc (i := 1) rfl⟩) q1470 dX0_held_31 h (fun v31 h => ?_)
    refine zv_if_eq X (tgt := 61) dX0_held_34 (by decide) h (fun h => ?_) (fun h => ?_)
    · refine zv_sub (L' := [(0, va_rf (a0)), (1, .int (a1)), (3, .int (a3))]) [1, 2, 4] rfl ?_
      exact kj_X0_held_61 X hK4 h
    · refine zv_aload X 0 dX0_held_37 rfl ?_
      refine zv_cast X zk_cs7 q1470 dX0_held_39 h (fun h => ?_)
      refine zv_astore X (L' := [(4, va_rf (v24)), (5, va_rf (v24)), (0, va_rf (a0)), (1, .int (a1)), (2, .int (a2)), (3, .int (a3))]) dX0_held_42 (by decide) rfl ?_
      refine zv_aload X 0 dX0_held_44 rfl ?_
      refine zv_getf_i X fo_q588 dX0_held_46 h (fun v46 h => ?_)
      refine zv_iload_n X 3 dX0_held_49 rfl ?_
      refine zv_icmp_ne X (tgt := 61) dX0_held_50 (by decide) h (fun h => ?_) (fun h => ?_)
      · refine zv_sub (L' := [(0, va_rf (a0)), (1, .int (a1)), (3, .int (a3))]) [2, 3, 5] rfl ?_
        exact kj_X0_held_61 X hK4 h
      · refine zv_aload X 0 dX0_held_53 rfl ?_
        refine zv_getf_i X fo_q591 dX0_held_55 h (fun v55 h => ?_)
        refine zv_goto X (tgt := 62) dX0_held_58 (by decide) ?_
        refine zv_sub (L' := [(0, va_rf (a0)), (1, .int (a1)), (3, .int (a3))]) [2, 3, 5] rfl ?_
        exact kj_X0_held_62 X hK4 h
theorem kl_X0_held_4 {p : Program} {l : Launch} {e : Env} {s : State} {m : MethodId} {args : Array Value} {below : List Frame} {meth : Method} {c : Code} {D : zk_G} {g : zk_M} {b0 : Nat} (X : zk_X p s m args meth c D g b0 cX0_held 6 "LandFolio" "held" (some Jvm.ClassFile.FieldType.int)) {post : Int32 → Prop}  {a0 : Option Nat} {a1 : Int32} {P : zk_H}   : ∀ (n : Nat) (a2 : Int32) (a3 : Int32), wl_X0_held_4 post a0 a1 P n a2 a3 → zV p l e ({ frames := 4, cells := 0, slots := 0, locals := 85 } : Room) s m args below meth c D b0 6 (0) (0) (MQ below (va_Qi (fun r u => post r ∧ u = P) (zk_B D b0) (zk_A b0)) args s 0 0 (zk_A b0)) P 4 [(0, va_rf (a0)), (1, .int (a1)), (2, .int (a2)), (3, .int (a3))] [] := by
  intro n
  induction n with
  | zero => intro _ _ h; exact h.elim
  | succ n ih =>
    intro a2 a3 h
    exact kb_X0_held_4 X  (fun u0 u1 h => ih _ _ h)  h
theorem md_X0_held : yX0_held.cls ≠ "java/lang/invoke/MethodHandle" ∧ yX0_held.cls ≠ "java/lang/invoke/VarHandle" ∧ (parseMethodDescriptor yX0_held.desc).map (fun d => d.parameters.length) = some 1 := by decide +kernel
theorem wk_X0_held (l : Launch) {D : zk_G} {g : zk_M} {b0 : Nat} {post : Int32 → Prop} {this : Nat} {x1 : Int32} {P : zk_H} (hh : wp_X0_held post this x1 P) : Met l yX0_held (ws_ yX0_held cX0_held 6 (some Jvm.ClassFile.FieldType.int)) ({ frames := 4, cells := 0, slots := 0, locals := 85 } : Room) (va_Pc [.ref this, .int (x1)] (zk_pre D g b0 P)) (va_Qi (fun r u => post r ∧ u = P) (zk_B D b0) (zk_A b0)) 0 0 (zk_A b0) := by
  refine zk_enter "LandFolio" "held" rfl rfl (plainFor_of_name (by decide)) [.ref this, .int (x1)] (Nat.le_of_ble_eq_true rfl) ?_
  intro p e s m args below meth c X
  refine zk_at0 (L' := [(0, va_rf (some this)), (1, .int (x1))]) (rfl) ?_
  have h := hh
  unfold wp_X0_held at h
  refine zv_iconst X (v := 0) dX0_held_0 rfl ?_
  refine zv_istore_n X (i := 2) (L' := [(2, .int (0)), (0, va_rf (some this)), (1, .int (x1))]) dX0_held_1 rfl (by decide) rfl ?_
  refine zv_iconst X (v := 0) dX0_held_2 rfl ?_
  refine zv_istore_n X (i := 3) (L' := [(3, .int (0)), (2, .int (0)), (0, va_rf (some this)), (1, .int (x1))]) dX0_held_3 rfl (by decide) rfl ?_
  refine zv_sub (L' := [(0, va_rf (some this)), (1, .int (x1)), (2, .int (0)), (3, .int (0))]) [2, 3, 1, 0] rfl ?_
  obtain ⟨n3, h⟩ := h
  exact kl_X0_held_4 X  n3 _ _ h
theorem md_X0_owned : yX0_owned.cls ≠ "java/lang/invoke/MethodHandle" ∧ yX0_owned.cls ≠ "java/lang/invoke/VarHandle" ∧ (parseMethodDescriptor yX0_owned.desc).map (fun d => d.parameters.length) = some 2 := by decide +kernel
theorem wk_X0_owned (l : Launch) {D : zk_G} {g : zk_M} {b0 : Nat} {post : Int32 → Prop} {this : Nat} {x1 : Int32} {x2 : Int32} {P : zk_H} (hh : wp_X0_owned post this x1 x2 P) : Met l yX0_owned (ws_ yX0_owned cX0_owned 3 (some Jvm.ClassFile.FieldType.int)) ({ frames := 6, cells := 0, slots := 0, locals := 135 } : Room) (va_Pc [.ref this, .int (x1), .int (x2)] (zk_pre D g b0 P)) (va_Qi (fun r u => post r ∧ u = P) (zk_B D b0) (zk_A b0)) 0 0 (zk_A b0) := by
  refine zk_enter "LandFolio" "owned" rfl rfl (plainFor_of_name (by decide)) [.ref this, .int (x1), .int (x2)] (Nat.le_of_ble_eq_true rfl) ?_
  intro p e s m args below meth c X
  refine zk_at0 (L' := [(0, va_rf (some this)), (1, .int (x1)), (2, .int (x2))]) (rfl) ?_
  have h := hh
  unfold wp_X0_owned at h
  refine zv_aload_n X 0 dX0_owned_0 rfl ?_
  refine zv_iload_n X 1 dX0_owned_1 rfl ?_
  refine zv_ciR ((zr_Vl X (As := [.int (x1)]) (rest := []) h (fun a h => wk_X0_isOwner l h) (zk_l1 ⟨_, rfl, cwV 1 X.hts (lw_V q1350 q1352 qs31 q102 q1353) rfl rfl rfl ⟨rfl, md_X0_isOwner⟩ ⟨Nat.le_of_ble_eq_true rfl, Nat.le_of_ble_eq_true rfl⟩⟩) rfl rfl (zk_rs (Nat.le_of_ble_eq_true rfl)) dX0_owned_2 ⟨by first | exact Nat.le_of_ble_eq_true rfl | omega | (dsimp only; omega), by first | exact Nat.le_of_ble_eq_true rfl | omega | (dsimp only; omega)⟩)) (fun v2 h => ?_)
  refine zv_if_eq X (tgt := 17) dX0_owned_5 (by decide) h (fun h => ?_) (fun h => ?_)
  · refine zv_iconst X (v := -1) dX0_owned_17 rfl ?_
    exact zv_iret X rfl (by first | exact Nat.le_of_ble_eq_true rfl | omega | (dsimp only; omega)) (by first | exact Nat.le_of_ble_eq_true rfl | omega | (dsimp only; omega)) dX0_owned_18 ⟨h, rfl⟩
  · refine zv_iload_n X 2 dX0_owned_8 rfl ?_
    refine zv_iconst X (v := 0) dX0_owned_9 rfl ?_
    refine zv_iconst X (v := 3) dX0_owned_10 rfl ?_
    refine zv_ciR ((zr_S X (As := [.int (x2), .int (0), .int (3)]) (rest := []) (wk_X0_isIn l h) (va_cwS 3 X.hts (lw_S q462 q463 q102 q464) rfl rfl rfl md_X0_isIn ⟨Nat.le_of_ble_eq_true rfl, Nat.le_of_ble_eq_true rfl⟩) rfl rfl (zk_rs (Nat.le_of_ble_eq_true rfl)) dX0_owned_11 ⟨by first | exact Nat.le_of_ble_eq_true rfl | omega | (dsimp only; omega), by first | exact Nat.le_of_ble_eq_true rfl | omega | (dsimp only; omega)⟩)) (fun v11 h => ?_)
    refine zv_if_ne X (tgt := 19) dX0_owned_14 (by decide) h (fun h => ?_) (fun h => ?_)
    · refine zv_iload_n X 2 dX0_owned_19 rfl ?_
      refine zv_iconst X (v := 3) dX0_owned_20 rfl ?_
      refine zv_icmp_ne X (tgt := 32) dX0_owned_21 (by decide) h (fun h => ?_) (fun h => ?_)
      · refine zv_aload_n X 0 dX0_owned_32 rfl ?_
        refine zv_iload_n X 1 dX0_owned_33 rfl ?_
        refine zv_iload_n X 2 dX0_owned_34 rfl ?_
        refine zv_ciR ((zr_Vl X (As := [.int (x1), .int (x2)]) (rest := []) h (fun a h => wk_X0_over l h) (zk_l1 ⟨_, rfl, cwV 2 X.hts (lw_V q1791 q1793 qs48 q102 q1794) rfl rfl rfl ⟨rfl, md_X0_over⟩ ⟨Nat.le_of_ble_eq_true rfl, Nat.le_of_ble_eq_true rfl⟩⟩) rfl rfl (zk_rs (Nat.le_of_ble_eq_true rfl)) dX0_owned_35 ⟨by first | exact Nat.le_of_ble_eq_true rfl | omega | (dsimp only; omega), by first | exact Nat.le_of_ble_eq_true rfl | omega | (dsimp only; omega)⟩)) (fun v35 h => ?_)
        exact zv_iret X rfl (by first | exact Nat.le_of_ble_eq_true rfl | omega | (dsimp only; omega)) (by first | exact Nat.le_of_ble_eq_true rfl | omega | (dsimp only; omega)) dX0_owned_38 ⟨h, rfl⟩
      · refine zv_aload_n X 0 dX0_owned_24 rfl ?_
        refine zv_iload_n X 1 dX0_owned_25 rfl ?_
        refine zv_ciR ((zr_Vl X (As := [.int (x1)]) (rest := []) h (fun a h => wk_X0_held l h) (zk_l1 ⟨_, rfl, cwV 1 X.hts (lw_V q1787 q1789 qs47 q102 q1790) rfl rfl rfl ⟨rfl, md_X0_held⟩ ⟨Nat.le_of_ble_eq_true rfl, Nat.le_of_ble_eq_true rfl⟩⟩) rfl rfl (zk_rs (Nat.le_of_ble_eq_true rfl)) dX0_owned_26 ⟨by first | exact Nat.le_of_ble_eq_true rfl | omega | (dsimp only; omega), by first | exact Nat.le_of_ble_eq_true rfl | omega | (dsimp only; omega)⟩)) (fun v26 h => ?_)
        refine zv_goto X (tgt := 38) dX0_owned_29 (by decide) ?_
        exact zv_iret X rfl (by first | exact Nat.le_of_ble_eq_true rfl | omega | (dsimp only; omega)) (by first | exact Nat.le_of_ble_eq_true rfl | omega | (dsimp only; omega)) dX0_owned_38 ⟨h, rfl⟩
    · refine zv_iconst X (v := -1) dX0_owned_17 rfl ?_
      exact zv_iret X rfl (by first | exact Nat.le_of_ble_eq_true rfl | omega | (dsimp only; omega)) (by first | exact Nat.le_of_ble_eq_true rfl | omega | (dsimp only; omega)) dX0_owned_18 ⟨h, rfl⟩
theorem kj_X0_richest_38 {p : Program} {l : Launch} {e : Env} {s : State} {m : MethodId} {args : Array Value} {below : List Frame} {meth : Method} {c : Code} {D : zk_G} {g : zk_M} {b0 : Nat} (X : zk_X p s m args meth c D g b0 cX0_richest 3 "LandFolio" "richest" (some Jvm.ClassFile.FieldType.int)) {post : Int32 → Prop} {K4 : Int32 → Int32 → Prop} {a0 : Option Nat} {a2 : Int32} {s0 : Int32} {P : zk_H}  (hK4 : ∀ (u1 : Int32) (u2 : Int32), K4 u1 u2 → zV p l e ({ frames := 6, cells := 0, slots := 0, locals := 135 } : Room) s m args below meth c D b0 3 (0) (0) (MQ below (va_Qi (fun r u => post r ∧ u = P) (zk_B D b0) (zk_A b0)) args s 0 0 (zk_A b0)) P 4 [(0, va_rf (a0)), (1, .int (u1)), (2, .int (u2))] [])  (hh : wj_X0_richest_38 post K4 a0 a2 s0 P) : zV p l e ({ frames := 6, cells := 0, slots := 0, locals := 135 } : Room) s m args below meth c D b0 3 (0) (0) (MQ below (va_Qi (fun r u => post r ∧ u = P) (zk_B D b0) (zk_A b0)) args s 0 0 (zk_A b0)) P 38 [(0, va_rf (a0)), (2, .int (a2))] [.int (s0)] := by
  have h := hh
  unfold wj_X0_richest_38 at h
  refine zv_istore_n X (i := 1) (L' := [(1, .int (s0)), (0, va_rf (a0)), (2, .int (a2))]) dX0_richest_38 rfl (by decide) (by simp [zk_s1, zk_s2, zk_rc, zk_ic, zk_jc]) ?_
  obtain ⟨v39, e39, h⟩ := zt_e h
  refine zv_iinc X (v := v39) (L' := [(2, .int (v39)), (1, .int (s0)), (0, va_rf (a0))]) 2 dX0_richest_39 rfl e39 (by decide) rfl ?_
  refine zv_goto X (tgt := 4) dX0_richest_42 (by decide) ?_
  refine zv_sub (L' := [(0, va_rf (a0)), (1, .int (s0)), (2, .int (v39))]) [2, 1, 0] rfl ?_
  exact hK4 _ _ h
theorem kb_X0_richest_4 {p : Program} {l : Launch} {e : Env} {s : State} {m : MethodId} {args : Array Value} {below : List Frame} {meth : Method} {c : Code} {D : zk_G} {g : zk_M} {b0 : Nat} (X : zk_X p s m args meth c D g b0 cX0_richest 3 "LandFolio" "richest" (some Jvm.ClassFile.FieldType.int)) {post : Int32 → Prop}  {K4 : Int32 → Int32 → Prop} {a0 : Option Nat} {a1 : Int32} {a2 : Int32} {P : zk_H}   (hK4 : ∀ (u1 : Int32) (u2 : Int32), K4 u1 u2 → zV p l e ({ frames := 6, cells := 0, slots := 0, locals := 135 } : Room) s m args below meth c D b0 3 (0) (0) (MQ below (va_Qi (fun r u => post r ∧ u = P) (zk_B D b0) (zk_A b0)) args s 0 0 (zk_A b0)) P 4 [(0, va_rf (a0)), (1, .int (u1)), (2, .int (u2))] [])  (hh : wb_X0_richest_4 post a0 P K4 a1 a2) : zV p l e ({ frames := 6, cells := 0, slots := 0, locals := 135 } : Room) s m args below meth c D b0 3 (0) (0) (MQ below (va_Qi (fun r u => post r ∧ u = P) (zk_B D b0) (zk_A b0)) args s 0 0 (zk_A b0)) P 4 [(0, va_rf (a0)), (1, .int (a1)), (2, .int (a2))] [] := by
  have h := hh
  unfold wb_X0_richest_4 at h
  refine zv_iload_n X 2 dX0_richest_4 rfl ?_
  refine zv_aload_n X 0 dX0_richest_5 rfl ?_
  refine zv_getf_r X fo_q402 dX0_richest_6 h (fun v6 h => ?_)
  refine zv_getf_r X fo_q192 dX0_richest_9 h (fun v9 h => ?_)
  refine zv_ciR ((zr_Vl X (As := []) (rest := [.int (a2)]) h (fun a h => wk_J2_size l h) (zk_l1 ⟨_, rfl, cwV 0 X.hts (lw_V q672 q362 q363 q106 q364) rfl rfl rfl ⟨rfl, md_J2_size⟩ ⟨Nat.le_of_ble_eq_true rfl, Nat.le_of_ble_eq_true rfl⟩⟩) rfl rfl (zk_rs (Nat.le_of_ble_eq_true rfl)) dX0_richest_12 ⟨by first | exact Nat.le_of_ble_eq_true rfl | omega | (dsimp only; omega), by first | exact Nat.le_of_ble_eq_true rfl | omega | (dsimp only; omega)⟩)) (fun v12 h => ?_)
  refine zv_icmp_ge X (tgt := 45) dX0_richest_15 (by decide) h (fun h => ?_) (fun h => ?_)
  · refine zv_iload_n X 1 dX0_richest_45 rfl ?_
    exact zv_iret X rfl (by first | exact Nat.le_of_ble_eq_true rfl | omega | (dsimp only; omega)) (by first | exact Nat.le_of_ble_eq_true rfl | omega | (dsimp only; omega)) dX0_richest_46 ⟨h, rfl⟩
  · refine zv_aload_n X 0 dX0_richest_18 rfl ?_
    refine zv_iload_n X 2 dX0_richest_19 rfl ?_
    refine zv_iconst X (v := 1) dX0_richest_20 rfl ?_
    refine zv_ciR ((zr_Vl X (As := [.int (a2), .int (1)]) (rest := []) h (fun a h => wk_X0_over l h) (zk_l1 ⟨_, rfl, cwV 2 X.hts (lw_V q1791 q1793 qs48 q102 q1794) rfl rfl rfl ⟨rfl, md_X0_over⟩ ⟨Nat.le_of_ble_eq_true rfl, Nat.le_of_ble_eq_true rfl⟩⟩) rfl rfl (zk_rs (Nat.le_of_ble_eq_true rfl)) dX0_richest_21 ⟨by first | exact Nat.le_of_ble_eq_true rfl | omega | (dsimp only; omega), by first | exact Nat.le_of_ble_eq_true rfl | omega | (dsimp only; omega)⟩)) (fun v21 h => ?_)
    refine zv_aload_n X 0 dX0_richest_24 rfl ?_
    refine zv_iload_n X 1 dX0_richest_25 rfl ?_
    refine zv_iconst X (v := 1) dX0_richest_26 rfl ?_
    refine zv_ciR ((zr_Vl X (As := [.int (a1), .int (1)]) (rest := [.int (v21)]) h (fun a h => wk_X0_over l h) (zk_l1 ⟨_, rfl, cwV 2 X.hts (lw_V q1791 q1793 qs48 q102 q1794) rfl rfl rfl ⟨rfl, md_X0_over⟩ ⟨Nat.le_of_ble_eq_true rfl, Nat.le_of_ble_eq_true rfl⟩⟩) rfl rfl (zk_rs (Nat.le_of_ble_eq_true rfl)) dX0_richest_27 ⟨by first | exact Nat.le_of_ble_eq_true rfl | omega | (dsimp only; omega), by first | exact Nat.le_of_ble_eq_true rfl | omega | (dsimp only; omega)⟩)) (fun v27 h => ?_)
    refine zv_icmp_le X (tgt := 37) dX0_richest_30 (by decide) h (fun h => ?_) (fun h => ?_)
    · refine zv_iload_n X 1 dX0_richest_37 rfl ?_
      refine zv_sub (L' := [(0, va_rf (a0)), (2, .int (a2))]) [0, 2] rfl ?_
      exact kj_X0_richest_38 X hK4 h
    · refine zv_iload_n X 2 dX0_richest_33 rfl ?_
      refine zv_goto X (tgt := 38) dX0_richest_34 (by decide) ?_
      refine zv_sub (L' := [(0, va_rf (a0)), (2, .int (a2))]) [0, 2] rfl ?_
      exact kj_X0_richest_38 X hK4 h
theorem kl_X0_richest_4 {p : Program} {l : Launch} {e : Env} {s : State} {m : MethodId} {args : Array Value} {below : List Frame} {meth : Method} {c : Code} {D : zk_G} {g : zk_M} {b0 : Nat} (X : zk_X p s m args meth c D g b0 cX0_richest 3 "LandFolio" "richest" (some Jvm.ClassFile.FieldType.int)) {post : Int32 → Prop}  {a0 : Option Nat} {P : zk_H}   : ∀ (n : Nat) (a1 : Int32) (a2 : Int32), wl_X0_richest_4 post a0 P n a1 a2 → zV p l e ({ frames := 6, cells := 0, slots := 0, locals := 135 } : Room) s m args below meth c D b0 3 (0) (0) (MQ below (va_Qi (fun r u => post r ∧ u = P) (zk_B D b0) (zk_A b0)) args s 0 0 (zk_A b0)) P 4 [(0, va_rf (a0)), (1, .int (a1)), (2, .int (a2))] [] := by
  intro n
  induction n with
  | zero => intro _ _ h; exact h.elim
  | succ n ih =>
    intro a1 a2 h
    exact kb_X0_richest_4 X  (fun u0 u1 h => ih _ _ h)  h
theorem md_X0_richest : yX0_richest.cls ≠ "java/lang/invoke/MethodHandle" ∧ yX0_richest.cls ≠ "java/lang/invoke/VarHandle" ∧ (parseMethodDescriptor yX0_richest.desc).map (fun d => d.parameters.length) = some 0 := by decide +kernel
theorem wk_X0_richest (l : Launch) {D : zk_G} {g : zk_M} {b0 : Nat} {post : Int32 → Prop} {this : Nat} {P : zk_H} (hh : wp_X0_richest post this P) : Met l yX0_richest (ws_ yX0_richest cX0_richest 3 (some Jvm.ClassFile.FieldType.int)) ({ frames := 6, cells := 0, slots := 0, locals := 135 } : Room) (va_Pc [.ref this] (zk_pre D g b0 P)) (va_Qi (fun r u => post r ∧ u = P) (zk_B D b0) (zk_A b0)) 0 0 (zk_A b0) := by
  refine zk_enter "LandFolio" "richest" rfl rfl (plainFor_of_name (by decide)) [.ref this] (Nat.le_of_ble_eq_true rfl) ?_
  intro p e s m args below meth c X
  refine zk_at0 (L' := [(0, va_rf (some this))]) (rfl) ?_
  have h := hh
  unfold wp_X0_richest at h
  refine zv_iconst X (v := 0) dX0_richest_0 rfl ?_
  refine zv_istore_n X (i := 1) (L' := [(1, .int (0)), (0, va_rf (some this))]) dX0_richest_1 rfl (by decide) rfl ?_
  refine zv_iconst X (v := 1) dX0_richest_2 rfl ?_
  refine zv_istore_n X (i := 2) (L' := [(2, .int (1)), (1, .int (0)), (0, va_rf (some this))]) dX0_richest_3 rfl (by decide) rfl ?_
  refine zv_sub (L' := [(0, va_rf (some this)), (1, .int (0)), (2, .int (1))]) [2, 1, 0] rfl ?_
  obtain ⟨n3, h⟩ := h
  exact kl_X0_richest_4 X  n3 _ _ h
theorem md_X0_special : yX0_special.cls ≠ "java/lang/invoke/MethodHandle" ∧ yX0_special.cls ≠ "java/lang/invoke/VarHandle" ∧ (parseMethodDescriptor yX0_special.desc).map (fun d => d.parameters.length) = some 2 := by decide +kernel
theorem wk_X0_special (l : Launch) {D : zk_G} {g : zk_M} {b0 : Nat} {post : Int32 → Prop} {this : Nat} {x1 : Option Nat} {x2 : Int32} {P : zk_H} (hh : wp_X0_special post this x1 x2 P) : Met l yX0_special (ws_ yX0_special cX0_special 4 (some Jvm.ClassFile.FieldType.int)) ({ frames := 6, cells := 0, slots := 0, locals := 135 } : Room) (va_Pc [.ref this, va_rf (x1), .int (x2)] (zk_pre D g b0 P)) (va_Qi (fun r u => post r ∧ u = P) (zk_B D b0) (zk_A b0)) 0 0 (zk_A b0) := by
  refine zk_enter "LandFolio" "special" rfl rfl (plainFor_of_name (by decide)) [.ref this, va_rf (x1), .int (x2)] (by cases x1 <;> exact Nat.le_of_ble_eq_true rfl) ?_
  intro p e s m args below meth c X
  refine zk_at0 (L' := [(0, va_rf (some this)), (1, va_rf (x1)), (2, .int (x2))]) (by cases x1 <;> rfl) ?_
  have h := hh
  unfold wp_X0_special at h
  refine zv_aload_n X 1 dX0_special_0 rfl ?_
  refine zv_inst X zk_cs7 (zk_l1 ⟨_, rfl, X.nc (i := 1) rfl⟩) q1470 dX0_special_1 h (fun v1 h => ?_)
  refine zv_if_eq X (tgt := 55) dX0_special_4 (by decide) h (fun h => ?_) (fun h => ?_)
  · refine zv_aload_n X 1 dX0_special_55 rfl ?_
    refine zv_cast X zk_cs6 q1486 dX0_special_56 h (fun h => ?_)
    refine zv_astore_n X (i := 3) (L' := [(3, va_rf (x1)), (0, va_rf (some this)), (1, va_rf (x1)), (2, .int (x2))]) dX0_special_59 rfl (by decide) rfl ?_
    refine zv_iload_n X 3 dX0_special_60 rfl ?_
    refine zv_if_ne X (tgt := 68) dX0_special_61 (by decide) h (fun h => ?_) (fun h => ?_)
    · refine zv_iload_n X 3 dX0_special_68 rfl ?_
      refine zv_iconst X (v := 1) dX0_special_69 rfl ?_
      refine zv_icmp_ne X (tgt := 80) dX0_special_70 (by decide) h (fun h => ?_) (fun h => ?_)
      · refine zv_iload_n X 3 dX0_special_80 rfl ?_
        refine zv_iconst X (v := 2) dX0_special_81 rfl ?_
        refine zv_icmp_ne X (tgt := 92) dX0_special_82 (by decide) h (fun h => ?_) (fun h => ?_)
        · refine zv_bipush X (v := -2) dX0_special_92 rfl ?_
          exact zv_iret X rfl (by first | exact Nat.le_of_ble_eq_true rfl | omega | (dsimp only; omega)) (by first | exact Nat.le_of_ble_eq_true rfl | omega | (dsimp only; omega)) dX0_special_94 ⟨h, rfl⟩
        · refine zv_aload_n X 0 dX0_special_85 rfl ?_
          refine zv_getf_i X fo_q635 dX0_special_86 h (fun v86 h => ?_)
          refine zv_goto X (tgt := 94) dX0_special_89 (by decide) ?_
          exact zv_iret X rfl (by first | exact Nat.le_of_ble_eq_true rfl | omega | (dsimp only; omega)) (by first | exact Nat.le_of_ble_eq_true rfl | omega | (dsimp only; omega)) dX0_special_94 ⟨h, rfl⟩
      · refine zv_aload_n X 0 dX0_special_73 rfl ?_
        refine zv_getf_i X fo_q632 dX0_special_74 h (fun v74 h => ?_)
        refine zv_goto X (tgt := 94) dX0_special_77 (by decide) ?_
        exact zv_iret X rfl (by first | exact Nat.le_of_ble_eq_true rfl | omega | (dsimp only; omega)) (by first | exact Nat.le_of_ble_eq_true rfl | omega | (dsimp only; omega)) dX0_special_94 ⟨h, rfl⟩
    · refine zv_iconst X (v := 1) dX0_special_64 rfl ?_
      refine zv_goto X (tgt := 94) dX0_special_65 (by decide) ?_
      exact zv_iret X rfl (by first | exact Nat.le_of_ble_eq_true rfl | omega | (dsimp only; omega)) (by first | exact Nat.le_of_ble_eq_true rfl | omega | (dsimp only; omega)) dX0_special_94 ⟨h, rfl⟩
  · refine zv_aload_n X 1 dX0_special_7 rfl ?_
    refine zv_cast X zk_cs7 q1470 dX0_special_8 h (fun h => ?_)
    refine zv_astore_n X (i := 3) (L' := [(3, va_rf (x1)), (0, va_rf (some this)), (1, va_rf (x1)), (2, .int (x2))]) dX0_special_11 rfl (by decide) rfl ?_
    refine zv_iload_n X 3 dX0_special_12 rfl ?_
    refine zv_if_ne X (tgt := 20) dX0_special_13 (by decide) h (fun h => ?_) (fun h => ?_)
    · refine zv_iload_n X 3 dX0_special_20 rfl ?_
      refine zv_iconst X (v := 1) dX0_special_21 rfl ?_
      refine zv_icmp_ne X (tgt := 32) dX0_special_22 (by decide) h (fun h => ?_) (fun h => ?_)
      · refine zv_iload_n X 3 dX0_special_32 rfl ?_
        refine zv_iconst X (v := 2) dX0_special_33 rfl ?_
        refine zv_icmp_ne X (tgt := 44) dX0_special_34 (by decide) h (fun h => ?_) (fun h => ?_)
        · refine zv_aload_n X 1 dX0_special_44 rfl ?_
          refine zv_getf_r X fo_q402 dX0_special_45 h (fun v45 h => ?_)
          refine zv_aload_n X 0 dX0_special_48 rfl ?_
          refine zv_bipush X (v := -2) dX0_special_49 rfl ?_
          refine zv_ciR ((zr_Vl X (As := [va_rf (x1), .int (-2)]) (rest := []) h (fun a h => wk_X1_cover l h) (zk_l1 ⟨_, rfl, cwV 2 X.hts (lw_V q1526 q1527 q1528 q103 q1529) rfl rfl rfl ⟨rfl, md_X1_cover⟩ ⟨Nat.le_of_ble_eq_true rfl, Nat.le_of_ble_eq_true rfl⟩⟩) rfl rfl (zk_rs (Nat.le_of_ble_eq_true rfl)) dX0_special_51 ⟨by first | exact Nat.le_of_ble_eq_true rfl | omega | (dsimp only; omega), by first | exact Nat.le_of_ble_eq_true rfl | omega | (dsimp only; omega)⟩)) (fun v51 h => ?_)
          exact zv_iret X rfl (by first | exact Nat.le_of_ble_eq_true rfl | omega | (dsimp only; omega)) (by first | exact Nat.le_of_ble_eq_true rfl | omega | (dsimp only; omega)) dX0_special_54 ⟨h, rfl⟩
        · refine zv_aload_n X 0 dX0_special_37 rfl ?_
          refine zv_getf_i X fo_q591 dX0_special_38 h (fun v38 h => ?_)
          refine zv_goto X (tgt := 54) dX0_special_41 (by decide) ?_
          exact zv_iret X rfl (by first | exact Nat.le_of_ble_eq_true rfl | omega | (dsimp only; omega)) (by first | exact Nat.le_of_ble_eq_true rfl | omega | (dsimp only; omega)) dX0_special_54 ⟨h, rfl⟩
      · refine zv_aload_n X 0 dX0_special_25 rfl ?_
        refine zv_getf_i X fo_q588 dX0_special_26 h (fun v26 h => ?_)
        refine zv_goto X (tgt := 54) dX0_special_29 (by decide) ?_
        exact zv_iret X rfl (by first | exact Nat.le_of_ble_eq_true rfl | omega | (dsimp only; omega)) (by first | exact Nat.le_of_ble_eq_true rfl | omega | (dsimp only; omega)) dX0_special_54 ⟨h, rfl⟩
    · refine zv_iconst X (v := 0) dX0_special_16 rfl ?_
      refine zv_goto X (tgt := 54) dX0_special_17 (by decide) ?_
      exact zv_iret X rfl (by first | exact Nat.le_of_ble_eq_true rfl | omega | (dsimp only; omega)) (by first | exact Nat.le_of_ble_eq_true rfl | omega | (dsimp only; omega)) dX0_special_54 ⟨h, rfl⟩
theorem md_X0_burden : yX0_burden.cls ≠ "java/lang/invoke/MethodHandle" ∧ yX0_burden.cls ≠ "java/lang/invoke/VarHandle" ∧ (parseMethodDescriptor yX0_burden.desc).map (fun d => d.parameters.length) = some 2 := by decide +kernel
theorem wk_X0_burden (l : Launch) {D : zk_G} {g : zk_M} {b0 : Nat} {post : Int32 → Prop} {this : Nat} {x1 : Int32} {x2 : Int32} {P : zk_H} (hh : wp_X0_burden post this x1 x2 P) : Met l yX0_burden (ws_ yX0_burden cX0_burden 4 (some Jvm.ClassFile.FieldType.int)) ({ frames := 7, cells := 0, slots := 0, locals := 158 } : Room) (va_Pc [.ref this, .int (x1), .int (x2)] (zk_pre D g b0 P)) (va_Qi (fun r u => post r ∧ u = P) (zk_B D b0) (zk_A b0)) 0 0 (zk_A b0) := by
  refine zk_enter "LandFolio" "burden" rfl rfl (plainFor_of_name (by decide)) [.ref this, .int (x1), .int (x2)] (Nat.le_of_ble_eq_true rfl) ?_
  intro p e s m args below meth c X
  refine zk_at0 (L' := [(0, va_rf (some this)), (1, .int (x1)), (2, .int (x2))]) (rfl) ?_
  have h := hh
  unfold wp_X0_burden at h
  refine zv_aload_n X 0 dX0_burden_0 rfl ?_
  refine zv_iload_n X 1 dX0_burden_1 rfl ?_
  refine zv_ciR ((zr_Vl X (As := [.int (x1)]) (rest := []) h (fun a h => wk_X0_isBurden l h) (zk_l1 ⟨_, rfl, cwV 1 X.hts (lw_V q1492 q1494 qs35 q102 q1495) rfl rfl rfl ⟨rfl, md_X0_isBurden⟩ ⟨Nat.le_of_ble_eq_true rfl, Nat.le_of_ble_eq_true rfl⟩⟩) rfl rfl (zk_rs (Nat.le_of_ble_eq_true rfl)) dX0_burden_2 ⟨by first | exact Nat.le_of_ble_eq_true rfl | omega | (dsimp only; omega), by first | exact Nat.le_of_ble_eq_true rfl | omega | (dsimp only; omega)⟩)) (fun v2 h => ?_)
  refine zv_if_ne X (tgt := 10) dX0_burden_5 (by decide) h (fun h => ?_) (fun h => ?_)
  · refine zv_aload_n X 0 dX0_burden_10 rfl ?_
    refine zv_getf_r X fo_q402 dX0_burden_11 h (fun v11 h => ?_)
    refine zv_iload_n X 1 dX0_burden_14 rfl ?_
    refine zv_cqR ((zr_Vl X (As := [.int (x1)]) (rest := []) h (fun a h => wk_X1_burden l h) (zk_l1 ⟨_, rfl, cwV 1 X.hts (lw_V q1496 q526 q527 q103 q528) rfl rfl rfl ⟨rfl, md_X1_burden⟩ ⟨Nat.le_of_ble_eq_true rfl, Nat.le_of_ble_eq_true rfl⟩⟩) rfl rfl (zk_rs (Nat.le_of_ble_eq_true rfl)) dX0_burden_15 ⟨by first | exact Nat.le_of_ble_eq_true rfl | omega | (dsimp only; omega), by first | exact Nat.le_of_ble_eq_true rfl | omega | (dsimp only; omega)⟩)) (fun v15 h => ?_)
    refine zv_astore_n X (i := 3) (L' := [(3, va_rf (v15)), (0, va_rf (some this)), (1, .int (x1)), (2, .int (x2))]) dX0_burden_18 rfl (by decide) rfl ?_
    refine zv_iload_n X 3 dX0_burden_19 rfl ?_
    by_cases z20_0 : x2 = 0
    · have h := h.1 z20_0
      refine zv_tableIn X (off := 48) (tgt := 68) dX0_burden_20 (by rw [z20_0]; decide) (by rw [z20_0]; decide) (by rw [z20_0]; decide) (by decide) ?_
      refine zv_aload_n X 1 dX0_burden_68 rfl ?_
      refine zv_aload_n X 0 dX0_burden_69 rfl ?_
      refine zv_iload_n X 3 dX0_burden_70 rfl ?_
      refine zv_ciR ((zr_Vl X (As := [va_rf (v15), .int (x2)]) (rest := []) h (fun a h => wk_X0_special l h) (zk_l1 ⟨_, rfl, cwV 2 X.hts (lw_V q1803 q1805 qs49 q102 q1806) rfl rfl rfl ⟨rfl, md_X0_special⟩ ⟨Nat.le_of_ble_eq_true rfl, Nat.le_of_ble_eq_true rfl⟩⟩) rfl rfl (zk_rs (Nat.le_of_ble_eq_true rfl)) dX0_burden_71 ⟨by first | exact Nat.le_of_ble_eq_true rfl | omega | (dsimp only; omega), by first | exact Nat.le_of_ble_eq_true rfl | omega | (dsimp only; omega)⟩)) (fun v71 h => ?_)
      refine zv_goto X (tgt := 117) dX0_burden_74 (by decide) ?_
      exact zv_iret X rfl (by first | exact Nat.le_of_ble_eq_true rfl | omega | (dsimp only; omega)) (by first | exact Nat.le_of_ble_eq_true rfl | omega | (dsimp only; omega)) dX0_burden_117 ⟨h, rfl⟩
    have h := h.2 z20_0
    by_cases z20_1 : x2 = 1
    · have h := h.1 z20_1
      refine zv_tableIn X (off := 48) (tgt := 68) dX0_burden_20 (by rw [z20_1]; decide) (by rw [z20_1]; decide) (by rw [z20_1]; decide) (by decide) ?_
      refine zv_aload_n X 1 dX0_burden_68 rfl ?_
      refine zv_aload_n X 0 dX0_burden_69 rfl ?_
      refine zv_iload_n X 3 dX0_burden_70 rfl ?_
      refine zv_ciR ((zr_Vl X (As := [va_rf (v15), .int (x2)]) (rest := []) h (fun a h => wk_X0_special l h) (zk_l1 ⟨_, rfl, cwV 2 X.hts (lw_V q1803 q1805 qs49 q102 q1806) rfl rfl rfl ⟨rfl, md_X0_special⟩ ⟨Nat.le_of_ble_eq_true rfl, Nat.le_of_ble_eq_true rfl⟩⟩) rfl rfl (zk_rs (Nat.le_of_ble_eq_true rfl)) dX0_burden_71 ⟨by first | exact Nat.le_of_ble_eq_true rfl | omega | (dsimp only; omega), by first | exact Nat.le_of_ble_eq_true rfl | omega | (dsimp only; omega)⟩)) (fun v71 h => ?_)
      refine zv_goto X (tgt := 117) dX0_burden_74 (by decide) ?_
      exact zv_iret X rfl (by first | exact Nat.le_of_ble_eq_true rfl | omega | (dsimp only; omega)) (by first | exact Nat.le_of_ble_eq_true rfl | omega | (dsimp only; omega)) dX0_burden_117 ⟨h, rfl⟩
    have h := h.2 z20_1
    by_cases z20_2 : x2 = 2
    · have h := h.1 z20_2
      refine zv_tableIn X (off := 48) (tgt := 68) dX0_burden_20 (by rw [z20_2]; decide) (by rw [z20_2]; decide) (by rw [z20_2]; decide) (by decide) ?_
      refine zv_aload_n X 1 dX0_burden_68 rfl ?_
      refine zv_aload_n X 0 dX0_burden_69 rfl ?_
      refine zv_iload_n X 3 dX0_burden_70 rfl ?_
      refine zv_ciR ((zr_Vl X (As := [va_rf (v15), .int (x2)]) (rest := []) h (fun a h => wk_X0_special l h) (zk_l1 ⟨_, rfl, cwV 2 X.hts (lw_V q1803 q1805 qs49 q102 q1806) rfl rfl rfl ⟨rfl, md_X0_special⟩ ⟨Nat.le_of_ble_eq_true rfl, Nat.le_of_ble_eq_true rfl⟩⟩) rfl rfl (zk_rs (Nat.le_of_ble_eq_true rfl)) dX0_burden_71 ⟨by first | exact Nat.le_of_ble_eq_true rfl | omega | (dsimp only; omega), by first | exact Nat.le_of_ble_eq_true rfl | omega | (dsimp only; omega)⟩)) (fun v71 h => ?_)
      refine zv_goto X (tgt := 117) dX0_burden_74 (by decide) ?_
      exact zv_iret X rfl (by first | exact Nat.le_of_ble_eq_true rfl | omega | (dsimp only; omega)) (by first | exact Nat.le_of_ble_eq_true rfl | omega | (dsimp only; omega)) dX0_burden_117 ⟨h, rfl⟩
    have h := h.2 z20_2
    by_cases z20_3 : x2 = 3
    · have h := h.1 z20_3
      refine zv_tableIn X (off := 57) (tgt := 77) dX0_burden_20 (by rw [z20_3]; decide) (by rw [z20_3]; decide) (by rw [z20_3]; decide) (by decide) ?_
      refine zv_aload_n X 0 dX0_burden_77 rfl ?_
      refine zv_getf_i X fo_q598 dX0_burden_78 h (fun v78 h => ?_)
      refine zv_goto X (tgt := 117) dX0_burden_81 (by decide) ?_
      exact zv_iret X rfl (by first | exact Nat.le_of_ble_eq_true rfl | omega | (dsimp only; omega)) (by first | exact Nat.le_of_ble_eq_true rfl | omega | (dsimp only; omega)) dX0_burden_117 ⟨h, rfl⟩
    have h := h.2 z20_3
    by_cases z20_4 : x2 = 4
    · have h := h.1 z20_4
      refine zv_tableIn X (off := 64) (tgt := 84) dX0_burden_20 (by rw [z20_4]; decide) (by rw [z20_4]; decide) (by rw [z20_4]; decide) (by decide) ?_
      refine zv_aload_n X 0 dX0_burden_84 rfl ?_
      refine zv_ciR ((zr_Ul X (As := []) (rest := []) h (fun a h => wk_X7_isEnded l h) (zk_l2 ⟨_, rfl, _, va_cwU 0 X.hts (zk_wsU q1595 q2600 q2601 q1501 q127 q1502) rfl rfl rfl rfl md_X7_isEnded ⟨Nat.le_of_ble_eq_true rfl, Nat.le_of_ble_eq_true rfl⟩⟩ ⟨_, rfl, _, va_cwU 0 X.hts (zk_wsU q1595 q2600 q2602 q1501 q127 q1502) rfl rfl rfl rfl md_X7_isEnded ⟨Nat.le_of_ble_eq_true rfl, Nat.le_of_ble_eq_true rfl⟩⟩) rfl rfl (zk_rs (Nat.le_of_ble_eq_true rfl)) dX0_burden_85 ⟨by first | exact Nat.le_of_ble_eq_true rfl | omega | (dsimp only; omega), by first | exact Nat.le_of_ble_eq_true rfl | omega | (dsimp only; omega)⟩)) (fun v85 h => ?_)
      refine zv_if_eq X (tgt := 95) dX0_burden_88 (by decide) h (fun h => ?_) (fun h => ?_)
      · refine zv_iconst X (v := 0) dX0_burden_95 rfl ?_
        refine zv_goto X (tgt := 117) dX0_burden_96 (by decide) ?_
        exact zv_iret X rfl (by first | exact Nat.le_of_ble_eq_true rfl | omega | (dsimp only; omega)) (by first | exact Nat.le_of_ble_eq_true rfl | omega | (dsimp only; omega)) dX0_burden_117 ⟨h, rfl⟩
      · refine zv_iconst X (v := 1) dX0_burden_91 rfl ?_
        refine zv_goto X (tgt := 117) dX0_burden_92 (by decide) ?_
        exact zv_iret X rfl (by first | exact Nat.le_of_ble_eq_true rfl | omega | (dsimp only; omega)) (by first | exact Nat.le_of_ble_eq_true rfl | omega | (dsimp only; omega)) dX0_burden_117 ⟨h, rfl⟩
    have h := h.2 z20_4
    by_cases z20_5 : x2 = 5
    · have h := h.1 z20_5
      refine zv_tableIn X (off := 79) (tgt := 99) dX0_burden_20 (by rw [z20_5]; decide) (by rw [z20_5]; decide) (by rw [z20_5]; decide) (by decide) ?_
      refine zv_aload_n X 0 dX0_burden_99 rfl ?_
      refine zv_getf_r X fo_q601 dX0_burden_100 h (fun v100 h => ?_)
      refine zv_ciR ((zr_Vl X (As := []) (rest := []) h (fun a h => wk_J16_cardinality l h) (zk_l1 ⟨_, rfl, cwV 0 X.hts (lw_V q1516 q1517 q1518 q126 q1519) rfl rfl rfl ⟨rfl, md_J16_cardinality⟩ ⟨Nat.le_of_ble_eq_true rfl, Nat.le_of_ble_eq_true rfl⟩⟩) rfl rfl (zk_rs (Nat.le_of_ble_eq_true rfl)) dX0_burden_103 ⟨by first | exact Nat.le_of_ble_eq_true rfl | omega | (dsimp only; omega), by first | exact Nat.le_of_ble_eq_true rfl | omega | (dsimp only; omega)⟩)) (fun v103 h => ?_)
      refine zv_goto X (tgt := 117) dX0_burden_106 (by decide) ?_
      exact zv_iret X rfl (by first | exact Nat.le_of_ble_eq_true rfl | omega | (dsimp only; omega)) (by first | exact Nat.le_of_ble_eq_true rfl | omega | (dsimp only; omega)) dX0_burden_117 ⟨h, rfl⟩
    have h := h.2 z20_5
    by_cases z20_6 : x2 = 6
    · have h := h.1 z20_6
      refine zv_tableIn X (off := 48) (tgt := 68) dX0_burden_20 (by rw [z20_6]; decide) (by rw [z20_6]; decide) (by rw [z20_6]; decide) (by decide) ?_
      refine zv_aload_n X 1 dX0_burden_68 rfl ?_
      refine zv_aload_n X 0 dX0_burden_69 rfl ?_
      refine zv_iload_n X 3 dX0_burden_70 rfl ?_
      refine zv_ciR ((zr_Vl X (As := [va_rf (v15), .int (x2)]) (rest := []) h (fun a h => wk_X0_special l h) (zk_l1 ⟨_, rfl, cwV 2 X.hts (lw_V q1803 q1805 qs49 q102 q1806) rfl rfl rfl ⟨rfl, md_X0_special⟩ ⟨Nat.le_of_ble_eq_true rfl, Nat.le_of_ble_eq_true rfl⟩⟩) rfl rfl (zk_rs (Nat.le_of_ble_eq_true rfl)) dX0_burden_71 ⟨by first | exact Nat.le_of_ble_eq_true rfl | omega | (dsimp only; omega), by first | exact Nat.le_of_ble_eq_true rfl | omega | (dsimp only; omega)⟩)) (fun v71 h => ?_)
      refine zv_goto X (tgt := 117) dX0_burden_74 (by decide) ?_
      exact zv_iret X rfl (by first | exact Nat.le_of_ble_eq_true rfl | omega | (dsimp only; omega)) (by first | exact Nat.le_of_ble_eq_true rfl | omega | (dsimp only; omega)) dX0_burden_117 ⟨h, rfl⟩
    have h := h.2 z20_6
    by_cases z20_7 : x2 = 7
    · have h := h.1 z20_7
      refine zv_tableIn X (off := 89) (tgt := 109) dX0_burden_20 (by rw [z20_7]; decide) (by rw [z20_7]; decide) (by rw [z20_7]; decide) (by decide) ?_
      refine zv_aload_n X 0 dX0_burden_109 rfl ?_
      refine zv_ciR ((zr_Ul X (As := []) (rest := []) h (fun a h => wk_X7_came l h) (zk_l2 ⟨_, rfl, _, va_cwU 0 X.hts (zk_wsU q1807 q2603 q2604 q554 q127 q555) rfl rfl rfl rfl md_X7_came ⟨Nat.le_of_ble_eq_true rfl, Nat.le_of_ble_eq_true rfl⟩⟩ ⟨_, rfl, _, va_cwU 0 X.hts (zk_wsU q1807 q2603 q2605 q554 q127 q555) rfl rfl rfl rfl md_X7_came ⟨Nat.le_of_ble_eq_true rfl, Nat.le_of_ble_eq_true rfl⟩⟩) rfl rfl (zk_rs (Nat.le_of_ble_eq_true rfl)) dX0_burden_110 ⟨by first | exact Nat.le_of_ble_eq_true rfl | omega | (dsimp only; omega), by first | exact Nat.le_of_ble_eq_true rfl | omega | (dsimp only; omega)⟩)) (fun v110 h => ?_)
      refine zv_goto X (tgt := 117) dX0_burden_113 (by decide) ?_
      exact zv_iret X rfl (by first | exact Nat.le_of_ble_eq_true rfl | omega | (dsimp only; omega)) (by first | exact Nat.le_of_ble_eq_true rfl | omega | (dsimp only; omega)) dX0_burden_117 ⟨h, rfl⟩
    have h := h.2 z20_7
    have z20_0 := zk_tn (n := 0) (by decide) z20_0
    have z20_1 := zk_tn (n := 1) (by decide) z20_1
    have z20_2 := zk_tn (n := 2) (by decide) z20_2
    have z20_3 := zk_tn (n := 3) (by decide) z20_3
    have z20_4 := zk_tn (n := 4) (by decide) z20_4
    have z20_5 := zk_tn (n := 5) (by decide) z20_5
    have z20_6 := zk_tn (n := 6) (by decide) z20_6
    have z20_7 := zk_tn (n := 7) (by decide) z20_7
    refine zv_tableOut X (tgt := 116) dX0_burden_20 (by omega) (by decide) ?_
    refine zv_iconst X (v := -1) dX0_burden_116 rfl ?_
    exact zv_iret X rfl (by first | exact Nat.le_of_ble_eq_true rfl | omega | (dsimp only; omega)) (by first | exact Nat.le_of_ble_eq_true rfl | omega | (dsimp only; omega)) dX0_burden_117 ⟨h, rfl⟩
  · refine zv_iconst X (v := -1) dX0_burden_8 rfl ?_
    exact zv_iret X rfl (by first | exact Nat.le_of_ble_eq_true rfl | omega | (dsimp only; omega)) (by first | exact Nat.le_of_ble_eq_true rfl | omega | (dsimp only; omega)) dX0_burden_9 ⟨h, rfl⟩
theorem kb_X0_burdenOf_33 {p : Program} {l : Launch} {e : Env} {s : State} {m : MethodId} {args : Array Value} {below : List Frame} {meth : Method} {c : Code} {D : zk_G} {g : zk_M} {b0 : Nat} (X : zk_X p s m args meth c D g b0 cX0_burdenOf 6 "LandFolio" "burdenOf" (some Jvm.ClassFile.FieldType.int)) {post : Int32 → zk_H → Prop}  {K33 : Int32 → zk_H → Prop} {a3 : Int32} {a4 : Option Nat} {P : zk_H}   (hK33 : ∀ (u3 : Int32) (U : zk_H), K33 u3 U → zV p l e ({ frames := 7, cells := 2, slots := 4, locals := 151 } : Room) s m args below meth c D b0 6 (2) (4) (MQ below (va_Qi post (zk_B D b0) (zk_A b0)) args s 2 4 (zk_A b0)) U 33 [(3, .int (u3)), (4, va_rf (a4))] [])  (hh : wb_X0_burdenOf_33 post a4 K33 a3 P) : zV p l e ({ frames := 7, cells := 2, slots := 4, locals := 151 } : Room) s m args below meth c D b0 6 (2) (4) (MQ below (va_Qi post (zk_B D b0) (zk_A b0)) args s 2 4 (zk_A b0)) P 33 [(3, .int (a3)), (4, va_rf (a4))] [] := by
  have h := hh
  unfold wb_X0_burdenOf_33 at h
  refine zv_aload X 1 dX0_burdenOf_33 rfl ?_
  refine zv_ciR5 ((zr_Fl X (As := []) (rest := []) h (fun a h => wk_X13_hasNext l h) (zk_l1 ⟨_, rfl, va_cwF 0 X.hts (zk_wsF q1666 q1670 q1672 q137 q1674) rfl rfl rfl (X.fw (i := 1) rfl) ⟨by decide, by decide, md_X13_hasNext.2.2⟩ ⟨Nat.le_of_ble_eq_true rfl, Nat.le_of_ble_eq_true rfl⟩⟩) rfl rfl (zk_rs (Nat.le_of_ble_eq_true rfl)) dX0_burdenOf_35 ⟨by first | exact Nat.le_of_ble_eq_true rfl | omega | (dsimp only; omega), by first | exact Nat.le_of_ble_eq_true rfl | omega | (dsimp only; omega)⟩)) (fun v35 h => ?_)
  refine zv_if_eq X (tgt := 71) dX0_burdenOf_40 (by decide) h (fun h => ?_) (fun h => ?_)
  · refine zv_bipush X (v := -2) dX0_burdenOf_71 rfl ?_
    exact zv_iret X rfl (by first | exact Nat.le_of_ble_eq_true rfl | omega | (dsimp only; omega)) (by first | exact Nat.le_of_ble_eq_true rfl | omega | (dsimp only; omega)) dX0_burdenOf_73 h
  · refine zv_aload X 1 dX0_burdenOf_43 rfl ?_
    refine zv_cq5 ((zr_Fl X (As := []) (rest := []) h (fun a h => wk_X13_next l h) (zk_l1 ⟨_, rfl, va_cwF 0 X.hts (zk_wsF q1676 q1679 q1681 q137 q1683) rfl rfl rfl (X.fw (i := 2) rfl) ⟨by decide, by decide, md_X13_next.2.2⟩ ⟨Nat.le_of_ble_eq_true rfl, Nat.le_of_ble_eq_true rfl⟩⟩) rfl rfl (zk_rs (Nat.le_of_ble_eq_true rfl)) dX0_burdenOf_45 ⟨by first | exact Nat.le_of_ble_eq_true rfl | omega | (dsimp only; omega), by first | exact Nat.le_of_ble_eq_true rfl | omega | (dsimp only; omega)⟩)) (fun v45 P45 h => ?_)
    refine zv_cast X zk_cs1 q1711 dX0_burdenOf_50 h (fun h => ?_)
    refine zv_astore X (L' := [(5, va_rf (v45)), (3, .int (a3)), (4, va_rf (a4))]) dX0_burdenOf_53 (by decide) (by simp [zk_s1, zk_s2, zk_rc, zk_ic, zk_jc]) ?_
    refine zv_iload_n X 1 dX0_burdenOf_55 rfl ?_
    refine zv_if_ne X (tgt := 65) dX0_burdenOf_56 (by decide) h (fun h => ?_) (fun h => ?_)
    · obtain ⟨v65, e65, h⟩ := zt_e h
      refine zv_iinc X (v := v65) (L' := [(3, .int (v65)), (5, va_rf (v45)), (4, va_rf (a4))]) 1 dX0_burdenOf_65 rfl e65 (by decide) rfl ?_
      refine zv_goto X (tgt := 33) dX0_burdenOf_68 (by decide) ?_
      refine zv_sub (L' := [(3, .int (v65)), (4, va_rf (a4))]) [0, 2] rfl ?_
      refine zv_widen (c2 := 2) (s2 := 4) (by first | exact Nat.le_refl _ | omega) (by first | exact Nat.le_refl _ | omega) ?_
      exact hK33 _ _ h
    · refine zv_aload X 0 dX0_burdenOf_59 rfl ?_
      refine zv_ciR ((zr_Ul X (As := []) (rest := []) h (fun a h => wk_X7_number l h) (zk_l2 ⟨_, rfl, _, va_cwU 0 X.hts (zk_wsU q1812 q2606 q2607 q548 q127 q549) rfl rfl rfl rfl md_X7_number ⟨Nat.le_of_ble_eq_true rfl, Nat.le_of_ble_eq_true rfl⟩⟩ ⟨_, rfl, _, va_cwU 0 X.hts (zk_wsU q1812 q2606 q2608 q548 q127 q549) rfl rfl rfl rfl md_X7_number ⟨Nat.le_of_ble_eq_true rfl, Nat.le_of_ble_eq_true rfl⟩⟩) rfl rfl (zk_rs (Nat.le_of_ble_eq_true rfl)) dX0_burdenOf_61 ⟨by first | exact Nat.le_of_ble_eq_true rfl | omega | (dsimp only; omega), by first | exact Nat.le_of_ble_eq_true rfl | omega | (dsimp only; omega)⟩)) (fun v61 h => ?_)
      exact zv_iret X rfl (by first | exact Nat.le_of_ble_eq_true rfl | omega | (dsimp only; omega)) (by first | exact Nat.le_of_ble_eq_true rfl | omega | (dsimp only; omega)) dX0_burdenOf_64 h
theorem kl_X0_burdenOf_33 {p : Program} {l : Launch} {e : Env} {s : State} {m : MethodId} {args : Array Value} {below : List Frame} {meth : Method} {c : Code} {D : zk_G} {g : zk_M} {b0 : Nat} (X : zk_X p s m args meth c D g b0 cX0_burdenOf 6 "LandFolio" "burdenOf" (some Jvm.ClassFile.FieldType.int)) {post : Int32 → zk_H → Prop}  {a4 : Option Nat}   : ∀ (n : Nat) (a3 : Int32) (P : zk_H), wl_X0_burdenOf_33 post a4 n a3 P → zV p l e ({ frames := 7, cells := 2, slots := 4, locals := 151 } : Room) s m args below meth c D b0 6 (2) (4) (MQ below (va_Qi post (zk_B D b0) (zk_A b0)) args s 2 4 (zk_A b0)) P 33 [(3, .int (a3)), (4, va_rf (a4))] [] := by
  intro n
  induction n with
  | zero => intro _ _ h; exact h.elim
  | succ n ih =>
    intro a3 P h
    exact kb_X0_burdenOf_33 X  (fun u0 u1 h => ih _ _ h)  h
theorem md_X0_burdenOf : yX0_burdenOf.cls ≠ "java/lang/invoke/MethodHandle" ∧ yX0_burdenOf.cls ≠ "java/lang/invoke/VarHandle" ∧ (parseMethodDescriptor yX0_burdenOf.desc).map (fun d => d.parameters.length) = some 2 := by decide +kernel
theorem wk_X0_burdenOf (l : Launch) {D : zk_G} {g : zk_M} {b0 : Nat} {post : Int32 → zk_H → Prop} {this : Nat} {x1 : Int32} {x2 : Int32} {P : zk_H} (hh : wp_X0_burdenOf post this x1 x2 P) : Met l yX0_burdenOf (ws_ yX0_burdenOf cX0_burdenOf 6 (some Jvm.ClassFile.FieldType.int)) ({ frames := 7, cells := 2, slots := 4, locals := 151 } : Room) (va_Pc [.ref this, .int (x1), .int (x2)] (zk_pre D g b0 P)) (va_Qi post (zk_B D b0) (zk_A b0)) 2 4 (zk_A b0) := by
  refine zk_enter "LandFolio" "burdenOf" rfl rfl (plainFor_of_name (by decide)) [.ref this, .int (x1), .int (x2)] (Nat.le_of_ble_eq_true rfl) ?_
  intro p e s m args below meth c X
  refine zk_at0 (L' := [(0, va_rf (some this)), (1, .int (x1)), (2, .int (x2))]) (rfl) ?_
  have h := hh
  unfold wp_X0_burdenOf at h
  refine zv_aload_n X 0 dX0_burdenOf_0 rfl ?_
  refine zv_iload_n X 1 dX0_burdenOf_1 rfl ?_
  refine zv_ciR ((zr_Vl X (As := [.int (x1)]) (rest := []) h (fun a h => wk_X0_isParcel l h) (zk_l1 ⟨_, rfl, cwV 1 X.hts (lw_V q1364 q1366 qs33 q102 q1367) rfl rfl rfl ⟨rfl, md_X0_isParcel⟩ ⟨Nat.le_of_ble_eq_true rfl, Nat.le_of_ble_eq_true rfl⟩⟩) rfl rfl (zk_rs (Nat.le_of_ble_eq_true rfl)) dX0_burdenOf_2 ⟨by first | exact Nat.le_of_ble_eq_true rfl | omega | (dsimp only; omega), by first | exact Nat.le_of_ble_eq_true rfl | omega | (dsimp only; omega)⟩)) (fun v2 h => ?_)
  refine zv_if_eq X (tgt := 12) dX0_burdenOf_5 (by decide) h (fun h => ?_) (fun h => ?_)
  · refine zv_iconst X (v := -1) dX0_burdenOf_12 rfl ?_
    exact zv_iret X rfl (by first | exact Nat.le_of_ble_eq_true rfl | omega | (dsimp only; omega)) (by first | exact Nat.le_of_ble_eq_true rfl | omega | (dsimp only; omega)) dX0_burdenOf_13 h
  · refine zv_iload_n X 2 dX0_burdenOf_8 rfl ?_
    refine zv_if_ge X (tgt := 14) dX0_burdenOf_9 (by decide) h (fun h => ?_) (fun h => ?_)
    · refine zv_iload_n X 2 dX0_burdenOf_14 rfl ?_
      refine zv_istore_n X (i := 3) (L' := [(3, .int (x2)), (0, va_rf (some this)), (1, .int (x1)), (2, .int (x2))]) dX0_burdenOf_15 rfl (by decide) rfl ?_
      refine zv_new X zk_nc10 q1628 (by first | exact Nat.le_of_ble_eq_true rfl | omega | (dsimp only; omega)) (by first | exact Nat.le_of_ble_eq_true rfl | omega | (dsimp only; omega)) dX0_burdenOf_16 h (fun v16 P16 h => ?_)
      refine zv_dup X dX0_burdenOf_19 (zk_rc _) ?_
      refine zv_aload_n X 1 dX0_burdenOf_20 rfl ?_
      refine zv_getf_r X fo_q402 dX0_burdenOf_21 h (fun v21 h => ?_)
      refine zv_iload_n X 2 dX0_burdenOf_24 rfl ?_
      refine zv_cv ((zr_I X (As := [va_rf (v21), .int (x1)]) (rest := [va_rf (some v16)]) (wk_X12_init l h) (cwI 2 X.hts (lw_meth q1632) rfl rfl rfl (X.w q136) (X.w q1630) (X.w q1631) rfl md_X12_init ⟨Nat.le_of_ble_eq_true rfl, Nat.le_of_ble_eq_true rfl⟩) rfl rfl (zk_rs (Nat.le_of_ble_eq_true rfl)) dX0_burdenOf_25 ⟨by first | exact Nat.le_of_ble_eq_true rfl | omega | (dsimp only; omega), by first | exact Nat.le_of_ble_eq_true rfl | omega | (dsimp only; omega)⟩)) (fun P25 h => ?_)
      refine zv_cq ((zr_Vl X (As := []) (rest := []) h (fun a h => wk_X12_iterator l h) (zk_l1 ⟨_, rfl, cwV 0 X.hts (lw_V q1641 q1642 q1643 q136 q1644) rfl rfl rfl ⟨rfl, md_X12_iterator⟩ ⟨Nat.le_of_ble_eq_true rfl, Nat.le_of_ble_eq_true rfl⟩⟩) rfl rfl (zk_rs (Nat.le_of_ble_eq_true rfl)) dX0_burdenOf_28 ⟨by first | exact Nat.le_of_ble_eq_true rfl | omega | (dsimp only; omega), by first | exact Nat.le_of_ble_eq_true rfl | omega | (dsimp only; omega)⟩)) (fun v28 P28 h => ?_)
      refine zv_astore X (L' := [(4, va_rf (v28)), (3, .int (x2)), (0, va_rf (some this)), (1, .int (x1)), (2, .int (x2))]) dX0_burdenOf_31 (by decide) rfl ?_
      refine zv_sub (L' := [(3, .int (x2)), (4, va_rf (v28))]) [1, 0] rfl ?_
      obtain ⟨n31, h⟩ := h
      refine zv_widen (c2 := 2) (s2 := 4) (by first | exact Nat.le_refl _ | omega) (by first | exact Nat.le_refl _ | omega) ?_
      exact kl_X0_burdenOf_33 X  n31 _ _ h
    · refine zv_iconst X (v := -1) dX0_burdenOf_12 rfl ?_
      exact zv_iret X rfl (by first | exact Nat.le_of_ble_eq_true rfl | omega | (dsimp only; omega)) (by first | exact Nat.le_of_ble_eq_true rfl | omega | (dsimp only; omega)) dX0_burdenOf_13 h
theorem kj_X0_lies_63 {p : Program} {l : Launch} {e : Env} {s : State} {m : MethodId} {args : Array Value} {below : List Frame} {meth : Method} {c : Code} {D : zk_G} {g : zk_M} {b0 : Nat} (X : zk_X p s m args meth c D g b0 cX0_lies 6 "LandFolio" "lies" (some Jvm.ClassFile.FieldType.int)) {post : Int32 → Prop}  {a4 : Int32} {P : zk_H}    (hh : wj_X0_lies_63 post a4 P) : zV p l e ({ frames := 4, cells := 0, slots := 0, locals := 85 } : Room) s m args below meth c D b0 6 (0) (0) (MQ below (va_Qi (fun r u => post r ∧ u = P) (zk_B D b0) (zk_A b0)) args s 0 0 (zk_A b0)) P 63 [(4, .int (a4))] [] := by
  have h := hh
  unfold wj_X0_lies_63 at h
  refine zv_iload X 0 dX0_lies_63 rfl ?_
  refine zv_if_ge X (tgt := 73) dX0_lies_65 (by decide) h (fun h => ?_) (fun h => ?_)
  · refine zv_iload X 0 dX0_lies_73 rfl ?_
    exact zv_iret X rfl (by first | exact Nat.le_of_ble_eq_true rfl | omega | (dsimp only; omega)) (by first | exact Nat.le_of_ble_eq_true rfl | omega | (dsimp only; omega)) dX0_lies_75 ⟨h, rfl⟩
  · refine zv_bipush X (v := -2) dX0_lies_68 rfl ?_
    refine zv_goto X (tgt := 75) dX0_lies_70 (by decide) ?_
    exact zv_iret X rfl (by first | exact Nat.le_of_ble_eq_true rfl | omega | (dsimp only; omega)) (by first | exact Nat.le_of_ble_eq_true rfl | omega | (dsimp only; omega)) dX0_lies_75 ⟨h, rfl⟩
theorem kb_X0_lies_36 {p : Program} {l : Launch} {e : Env} {s : State} {m : MethodId} {args : Array Value} {below : List Frame} {meth : Method} {c : Code} {D : zk_G} {g : zk_M} {b0 : Nat} (X : zk_X p s m args meth c D g b0 cX0_lies 6 "LandFolio" "lies" (some Jvm.ClassFile.FieldType.int)) {post : Int32 → Prop}  {K36 : Int32 → Int32 → Prop} {a2 : Int32} {a3 : Option Nat} {a4 : Int32} {a5 : Int32} {P : zk_H}   (hK36 : ∀ (u4 : Int32) (u5 : Int32), K36 u4 u5 → zV p l e ({ frames := 4, cells := 0, slots := 0, locals := 85 } : Room) s m args below meth c D b0 6 (0) (0) (MQ below (va_Qi (fun r u => post r ∧ u = P) (zk_B D b0) (zk_A b0)) args s 0 0 (zk_A b0)) P 36 [(2, .int (a2)), (3, va_rf (a3)), (4, .int (u4)), (5, .int (u5))] [])  (hh : wb_X0_lies_36 post a2 a3 P K36 a4 a5) : zV p l e ({ frames := 4, cells := 0, slots := 0, locals := 85 } : Room) s m args below meth c D b0 6 (0) (0) (MQ below (va_Qi (fun r u => post r ∧ u = P) (zk_B D b0) (zk_A b0)) args s 0 0 (zk_A b0)) P 36 [(2, .int (a2)), (3, va_rf (a3)), (4, .int (a4)), (5, .int (a5))] [] := by
  have h := hh
  unfold wb_X0_lies_36 at h
  refine zv_iload X 3 dX0_lies_36 rfl ?_
  refine zv_iload_n X 0 dX0_lies_38 rfl ?_
  refine zv_icmp_ge X (tgt := 63) dX0_lies_39 (by decide) h (fun h => ?_) (fun h => ?_)
  · refine zv_sub (L' := [(4, .int (a4))]) [2] rfl ?_
    exact kj_X0_lies_63 X  h
  · refine zv_iload X 2 dX0_lies_42 rfl ?_
    refine zv_if_lt X (tgt := 63) dX0_lies_44 (by decide) h (fun h => ?_) (fun h => ?_)
    · refine zv_sub (L' := [(4, .int (a4))]) [2] rfl ?_
      exact kj_X0_lies_63 X  h
    · refine zv_aload_n X 1 dX0_lies_47 rfl ?_
      refine zv_iload X 2 dX0_lies_48 rfl ?_
      refine zv_iconst X (v := 1) dX0_lies_50 rfl ?_
      refine zv_iadd X dX0_lies_51 ?_
      refine zv_ciR ((zr_Vl X (As := [.int (a4 + 1)]) (rest := []) h (fun a h => wk_J16_nextSetBit l h) (zk_l1 ⟨_, rfl, cwV 1 X.hts (lw_V q1817 q1531 q1532 q126 q1533) rfl rfl rfl ⟨rfl, md_J16_nextSetBit⟩ ⟨Nat.le_of_ble_eq_true rfl, Nat.le_of_ble_eq_true rfl⟩⟩) rfl rfl (zk_rs (Nat.le_of_ble_eq_true rfl)) dX0_lies_52 ⟨by first | exact Nat.le_of_ble_eq_true rfl | omega | (dsimp only; omega), by first | exact Nat.le_of_ble_eq_true rfl | omega | (dsimp only; omega)⟩)) (fun v52 h => ?_)
      refine zv_istore X (L' := [(4, .int (v52)), (2, .int (a2)), (3, va_rf (a3)), (5, .int (a5))]) dX0_lies_55 (by decide) (by simp [zk_s1, zk_s2, zk_rc, zk_ic, zk_jc]) ?_
      obtain ⟨v57, e57, h⟩ := zt_e h
      refine zv_iinc X (v := v57) (L' := [(5, .int (v57)), (4, .int (v52)), (2, .int (a2)), (3, va_rf (a3))]) 3 dX0_lies_57 rfl e57 (by decide) rfl ?_
      refine zv_goto X (tgt := 36) dX0_lies_60 (by decide) ?_
      refine zv_sub (L' := [(2, .int (a2)), (3, va_rf (a3)), (4, .int (v52)), (5, .int (v57))]) [2, 3, 1, 0] rfl ?_
      exact hK36 _ _ h
theorem kl_X0_lies_36 {p : Program} {l : Launch} {e : Env} {s : State} {m : MethodId} {args : Array Value} {below : List Frame} {meth : Method} {c : Code} {D : zk_G} {g : zk_M} {b0 : Nat} (X : zk_X p s m args meth c D g b0 cX0_lies 6 "LandFolio" "lies" (some Jvm.ClassFile.FieldType.int)) {post : Int32 → Prop}  {a2 : Int32} {a3 : Option Nat} {P : zk_H}   : ∀ (n : Nat) (a4 : Int32) (a5 : Int32), wl_X0_lies_36 post a2 a3 P n a4 a5 → zV p l e ({ frames := 4, cells := 0, slots := 0, locals := 85 } : Room) s m args below meth c D b0 6 (0) (0) (MQ below (va_Qi (fun r u => post r ∧ u = P) (zk_B D b0) (zk_A b0)) args s 0 0 (zk_A b0)) P 36 [(2, .int (a2)), (3, va_rf (a3)), (4, .int (a4)), (5, .int (a5))] [] := by
  intro n
  induction n with
  | zero => intro _ _ h; exact h.elim
  | succ n ih =>
    intro a4 a5 h
    exact kb_X0_lies_36 X  (fun u0 u1 h => ih _ _ h)  h
theorem md_X0_lies : yX0_lies.cls ≠ "java/lang/invoke/MethodHandle" ∧ yX0_lies.cls ≠ "java/lang/invoke/VarHandle" ∧ (parseMethodDescriptor yX0_lies.desc).map (fun d => d.parameters.length) = some 2 := by decide +kernel
theorem wk_X0_lies (l : Launch) {D : zk_G} {g : zk_M} {b0 : Nat} {post : Int32 → Prop} {this : Nat} {x1 : Int32} {x2 : Int32} {P : zk_H} (hh : wp_X0_lies post this x1 x2 P) : Met l yX0_lies (ws_ yX0_lies cX0_lies 6 (some Jvm.ClassFile.FieldType.int)) ({ frames := 4, cells := 0, slots := 0, locals := 85 } : Room) (va_Pc [.ref this, .int (x1), .int (x2)] (zk_pre D g b0 P)) (va_Qi (fun r u => post r ∧ u = P) (zk_B D b0) (zk_A b0)) 0 0 (zk_A b0) := by
  refine zk_enter "LandFolio" "lies" rfl rfl (plainFor_of_name (by decide)) [.ref this, .int (x1), .int (x2)] (Nat.le_of_ble_eq_true rfl) ?_
  intro p e s m args below meth c X
  refine zk_at0 (L' := [(0, va_rf (some this)), (1, .int (x1)), (2, .int (x2))]) (rfl) ?_
  have h := hh
  unfold wp_X0_lies at h
  refine zv_aload_n X 0 dX0_lies_0 rfl ?_
  refine zv_iload_n X 1 dX0_lies_1 rfl ?_
  refine zv_ciR ((zr_Vl X (As := [.int (x1)]) (rest := []) h (fun a h => wk_X0_isBurden l h) (zk_l1 ⟨_, rfl, cwV 1 X.hts (lw_V q1492 q1494 qs35 q102 q1495) rfl rfl rfl ⟨rfl, md_X0_isBurden⟩ ⟨Nat.le_of_ble_eq_true rfl, Nat.le_of_ble_eq_true rfl⟩⟩) rfl rfl (zk_rs (Nat.le_of_ble_eq_true rfl)) dX0_lies_2 ⟨by first | exact Nat.le_of_ble_eq_true rfl | omega | (dsimp only; omega), by first | exact Nat.le_of_ble_eq_true rfl | omega | (dsimp only; omega)⟩)) (fun v2 h => ?_)
  refine zv_if_eq X (tgt := 12) dX0_lies_5 (by decide) h (fun h => ?_) (fun h => ?_)
  · refine zv_iconst X (v := -1) dX0_lies_12 rfl ?_
    exact zv_iret X rfl (by first | exact Nat.le_of_ble_eq_true rfl | omega | (dsimp only; omega)) (by first | exact Nat.le_of_ble_eq_true rfl | omega | (dsimp only; omega)) dX0_lies_13 ⟨h, rfl⟩
  · refine zv_iload_n X 2 dX0_lies_8 rfl ?_
    refine zv_if_ge X (tgt := 14) dX0_lies_9 (by decide) h (fun h => ?_) (fun h => ?_)
    · refine zv_aload_n X 0 dX0_lies_14 rfl ?_
      refine zv_getf_r X fo_q402 dX0_lies_15 h (fun v15 h => ?_)
      refine zv_iload_n X 1 dX0_lies_18 rfl ?_
      refine zv_cqR ((zr_Vl X (As := [.int (x1)]) (rest := []) h (fun a h => wk_X1_burden l h) (zk_l1 ⟨_, rfl, cwV 1 X.hts (lw_V q1496 q526 q527 q103 q528) rfl rfl rfl ⟨rfl, md_X1_burden⟩ ⟨Nat.le_of_ble_eq_true rfl, Nat.le_of_ble_eq_true rfl⟩⟩) rfl rfl (zk_rs (Nat.le_of_ble_eq_true rfl)) dX0_lies_19 ⟨by first | exact Nat.le_of_ble_eq_true rfl | omega | (dsimp only; omega), by first | exact Nat.le_of_ble_eq_true rfl | omega | (dsimp only; omega)⟩)) (fun v19 h => ?_)
      refine zv_getf_r X fo_q601 dX0_lies_22 h (fun v22 h => ?_)
      refine zv_astore_n X (i := 3) (L' := [(3, va_rf (v22)), (0, va_rf (some this)), (1, .int (x1)), (2, .int (x2))]) dX0_lies_25 rfl (by decide) rfl ?_
      refine zv_aload_n X 0 dX0_lies_26 rfl ?_
      refine zv_iconst X (v := 0) dX0_lies_27 rfl ?_
      refine zv_ciR ((zr_Vl X (As := [.int (0)]) (rest := []) h (fun a h => wk_J16_nextSetBit l h) (zk_l1 ⟨_, rfl, cwV 1 X.hts (lw_V q1817 q1531 q1532 q126 q1533) rfl rfl rfl ⟨rfl, md_J16_nextSetBit⟩ ⟨Nat.le_of_ble_eq_true rfl, Nat.le_of_ble_eq_true rfl⟩⟩) rfl rfl (zk_rs (Nat.le_of_ble_eq_true rfl)) dX0_lies_28 ⟨by first | exact Nat.le_of_ble_eq_true rfl | omega | (dsimp only; omega), by first | exact Nat.le_of_ble_eq_true rfl | omega | (dsimp only; omega)⟩)) (fun v28 h => ?_)
      refine zv_istore X (L' := [(4, .int (v28)), (3, va_rf (v22)), (0, va_rf (some this)), (1, .int (x1)), (2, .int (x2))]) dX0_lies_31 (by decide) (by simp [zk_s1, zk_s2, zk_rc, zk_ic, zk_jc]) ?_
      refine zv_iconst X (v := 0) dX0_lies_33 rfl ?_
      refine zv_istore X (L' := [(5, .int (0)), (4, .int (v28)), (3, va_rf (v22)), (0, va_rf (some this)), (1, .int (x1)), (2, .int (x2))]) dX0_lies_34 (by decide) rfl ?_
      refine zv_sub (L' := [(2, .int (x2)), (3, va_rf (v22)), (4, .int (v28)), (5, .int (0))]) [5, 2, 1, 0] rfl ?_
      obtain ⟨n34, h⟩ := h
      exact kl_X0_lies_36 X  n34 _ _ h
    · refine zv_iconst X (v := -1) dX0_lies_12 rfl ?_
      exact zv_iret X rfl (by first | exact Nat.le_of_ble_eq_true rfl | omega | (dsimp only; omega)) (by first | exact Nat.le_of_ble_eq_true rfl | omega | (dsimp only; omega)) dX0_lies_13 ⟨h, rfl⟩
theorem kb_X0_rank_37 {p : Program} {l : Launch} {e : Env} {s : State} {m : MethodId} {args : Array Value} {below : List Frame} {meth : Method} {c : Code} {D : zk_G} {g : zk_M} {b0 : Nat} (X : zk_X p s m args meth c D g b0 cX0_rank 6 "LandFolio" "rank" (some Jvm.ClassFile.FieldType.int)) {post : Int32 → zk_H → Prop}  {K37 : Int32 → zk_H → Prop} {a1 : Int32} {a3 : Int32} {a4 : Option Nat} {P : zk_H}   (hK37 : ∀ (u3 : Int32) (U : zk_H), K37 u3 U → zV p l e ({ frames := 7, cells := 2, slots := 4, locals := 151 } : Room) s m args below meth c D b0 6 (2) (4) (MQ below (va_Qi post (zk_B D b0) (zk_A b0)) args s 2 4 (zk_A b0)) U 37 [(1, .int (a1)), (3, .int (u3)), (4, va_rf (a4))] [])  (hh : wb_X0_rank_37 post a1 a4 K37 a3 P) : zV p l e ({ frames := 7, cells := 2, slots := 4, locals := 151 } : Room) s m args below meth c D b0 6 (2) (4) (MQ below (va_Qi post (zk_B D b0) (zk_A b0)) args s 2 4 (zk_A b0)) P 37 [(1, .int (a1)), (3, .int (a3)), (4, va_rf (a4))] [] := by
  have h := hh
  unfold wb_X0_rank_37 at h
  refine zv_aload X 2 dX0_rank_37 rfl ?_
  refine zv_ciR5 ((zr_Fl X (As := []) (rest := []) h (fun a h => wk_X13_hasNext l h) (zk_l1 ⟨_, rfl, va_cwF 0 X.hts (zk_wsF q1666 q1670 q1672 q137 q1674) rfl rfl rfl (X.fw (i := 1) rfl) ⟨by decide, by decide, md_X13_hasNext.2.2⟩ ⟨Nat.le_of_ble_eq_true rfl, Nat.le_of_ble_eq_true rfl⟩⟩) rfl rfl (zk_rs (Nat.le_of_ble_eq_true rfl)) dX0_rank_39 ⟨by first | exact Nat.le_of_ble_eq_true rfl | omega | (dsimp only; omega), by first | exact Nat.le_of_ble_eq_true rfl | omega | (dsimp only; omega)⟩)) (fun v39 h => ?_)
  refine zv_if_eq X (tgt := 76) dX0_rank_44 (by decide) h (fun h => ?_) (fun h => ?_)
  · refine zv_bipush X (v := -2) dX0_rank_76 rfl ?_
    exact zv_iret X rfl (by first | exact Nat.le_of_ble_eq_true rfl | omega | (dsimp only; omega)) (by first | exact Nat.le_of_ble_eq_true rfl | omega | (dsimp only; omega)) dX0_rank_78 h
  · refine zv_aload X 2 dX0_rank_47 rfl ?_
    refine zv_cq5 ((zr_Fl X (As := []) (rest := []) h (fun a h => wk_X13_next l h) (zk_l1 ⟨_, rfl, va_cwF 0 X.hts (zk_wsF q1676 q1679 q1681 q137 q1683) rfl rfl rfl (X.fw (i := 2) rfl) ⟨by decide, by decide, md_X13_next.2.2⟩ ⟨Nat.le_of_ble_eq_true rfl, Nat.le_of_ble_eq_true rfl⟩⟩) rfl rfl (zk_rs (Nat.le_of_ble_eq_true rfl)) dX0_rank_49 ⟨by first | exact Nat.le_of_ble_eq_true rfl | omega | (dsimp only; omega), by first | exact Nat.le_of_ble_eq_true rfl | omega | (dsimp only; omega)⟩)) (fun v49 P49 h => ?_)
    refine zv_cast X zk_cs1 q1711 dX0_rank_54 h (fun h => ?_)
    refine zv_astore X (L' := [(5, va_rf (v49)), (1, .int (a1)), (3, .int (a3)), (4, va_rf (a4))]) dX0_rank_57 (by decide) (by simp [zk_s1, zk_s2, zk_rc, zk_ic, zk_jc]) ?_
    refine zv_aload X 0 dX0_rank_59 rfl ?_
    refine zv_ciR ((zr_Ul X (As := []) (rest := []) h (fun a h => wk_X7_number l h) (zk_l2 ⟨_, rfl, _, va_cwU 0 X.hts (zk_wsU q1812 q2606 q2607 q548 q127 q549) rfl rfl rfl rfl md_X7_number ⟨Nat.le_of_ble_eq_true rfl, Nat.le_of_ble_eq_true rfl⟩⟩ ⟨_, rfl, _, va_cwU 0 X.hts (zk_wsU q1812 q2606 q2608 q548 q127 q549) rfl rfl rfl rfl md_X7_number ⟨Nat.le_of_ble_eq_true rfl, Nat.le_of_ble_eq_true rfl⟩⟩) rfl rfl (zk_rs (Nat.le_of_ble_eq_true rfl)) dX0_rank_61 ⟨by first | exact Nat.le_of_ble_eq_true rfl | omega | (dsimp only; omega), by first | exact Nat.le_of_ble_eq_true rfl | omega | (dsimp only; omega)⟩)) (fun v61 h => ?_)
    refine zv_iload_n X 1 dX0_rank_64 rfl ?_
    refine zv_icmp_ne X (tgt := 70) dX0_rank_65 (by decide) h (fun h => ?_) (fun h => ?_)
    · obtain ⟨v70, e70, h⟩ := zt_e h
      refine zv_iinc X (v := v70) (L' := [(3, .int (v70)), (5, va_rf (v49)), (1, .int (a1)), (4, va_rf (a4))]) 2 dX0_rank_70 rfl e70 (by decide) rfl ?_
      refine zv_goto X (tgt := 37) dX0_rank_73 (by decide) ?_
      refine zv_sub (L' := [(1, .int (a1)), (3, .int (v70)), (4, va_rf (a4))]) [2, 0, 3] rfl ?_
      refine zv_widen (c2 := 2) (s2 := 4) (by first | exact Nat.le_refl _ | omega) (by first | exact Nat.le_refl _ | omega) ?_
      exact hK37 _ _ h
    · refine zv_iload_n X 2 dX0_rank_68 rfl ?_
      exact zv_iret X rfl (by first | exact Nat.le_of_ble_eq_true rfl | omega | (dsimp only; omega)) (by first | exact Nat.le_of_ble_eq_true rfl | omega | (dsimp only; omega)) dX0_rank_69 h
theorem kl_X0_rank_37 {p : Program} {l : Launch} {e : Env} {s : State} {m : MethodId} {args : Array Value} {below : List Frame} {meth : Method} {c : Code} {D : zk_G} {g : zk_M} {b0 : Nat} (X : zk_X p s m args meth c D g b0 cX0_rank 6 "LandFolio" "rank" (some Jvm.ClassFile.FieldType.int)) {post : Int32 → zk_H → Prop}  {a1 : Int32} {a4 : Option Nat}   : ∀ (n : Nat) (a3 : Int32) (P : zk_H), wl_X0_rank_37 post a1 a4 n a3 P → zV p l e ({ frames := 7, cells := 2, slots := 4, locals := 151 } : Room) s m args below meth c D b0 6 (2) (4) (MQ below (va_Qi post (zk_B D b0) (zk_A b0)) args s 2 4 (zk_A b0)) P 37 [(1, .int (a1)), (3, .int (a3)), (4, va_rf (a4))] [] := by
  intro n
  induction n with
  | zero => intro _ _ h; exact h.elim
  | succ n ih =>
    intro a3 P h
    exact kb_X0_rank_37 X  (fun u0 u1 h => ih _ _ h)  h
theorem md_X0_rank : yX0_rank.cls ≠ "java/lang/invoke/MethodHandle" ∧ yX0_rank.cls ≠ "java/lang/invoke/VarHandle" ∧ (parseMethodDescriptor yX0_rank.desc).map (fun d => d.parameters.length) = some 2 := by decide +kernel
theorem wk_X0_rank (l : Launch) {D : zk_G} {g : zk_M} {b0 : Nat} {post : Int32 → zk_H → Prop} {this : Nat} {x1 : Int32} {x2 : Int32} {P : zk_H} (hh : wp_X0_rank post this x1 x2 P) : Met l yX0_rank (ws_ yX0_rank cX0_rank 6 (some Jvm.ClassFile.FieldType.int)) ({ frames := 7, cells := 2, slots := 4, locals := 151 } : Room) (va_Pc [.ref this, .int (x1), .int (x2)] (zk_pre D g b0 P)) (va_Qi post (zk_B D b0) (zk_A b0)) 2 4 (zk_A b0) := by
  refine zk_enter "LandFolio" "rank" rfl rfl (plainFor_of_name (by decide)) [.ref this, .int (x1), .int (x2)] (Nat.le_of_ble_eq_true rfl) ?_
  intro p e s m args below meth c X
  refine zk_at0 (L' := [(0, va_rf (some this)), (1, .int (x1)), (2, .int (x2))]) (rfl) ?_
  have h := hh
  unfold wp_X0_rank at h
  refine zv_aload_n X 0 dX0_rank_0 rfl ?_
  refine zv_iload_n X 1 dX0_rank_1 rfl ?_
  refine zv_ciR ((zr_Vl X (As := [.int (x1)]) (rest := []) h (fun a h => wk_X0_isBurden l h) (zk_l1 ⟨_, rfl, cwV 1 X.hts (lw_V q1492 q1494 qs35 q102 q1495) rfl rfl rfl ⟨rfl, md_X0_isBurden⟩ ⟨Nat.le_of_ble_eq_true rfl, Nat.le_of_ble_eq_true rfl⟩⟩) rfl rfl (zk_rs (Nat.le_of_ble_eq_true rfl)) dX0_rank_2 ⟨by first | exact Nat.le_of_ble_eq_true rfl | omega | (dsimp only; omega), by first | exact Nat.le_of_ble_eq_true rfl | omega | (dsimp only; omega)⟩)) (fun v2 h => ?_)
  refine zv_if_eq X (tgt := 16) dX0_rank_5 (by decide) h (fun h => ?_) (fun h => ?_)
  · refine zv_iconst X (v := -1) dX0_rank_16 rfl ?_
    exact zv_iret X rfl (by first | exact Nat.le_of_ble_eq_true rfl | omega | (dsimp only; omega)) (by first | exact Nat.le_of_ble_eq_true rfl | omega | (dsimp only; omega)) dX0_rank_17 h
  · refine zv_aload_n X 0 dX0_rank_8 rfl ?_
    refine zv_iload_n X 2 dX0_rank_9 rfl ?_
    refine zv_ciR ((zr_Vl X (As := [.int (x2)]) (rest := []) h (fun a h => wk_X0_isParcel l h) (zk_l1 ⟨_, rfl, cwV 1 X.hts (lw_V q1364 q1366 qs33 q102 q1367) rfl rfl rfl ⟨rfl, md_X0_isParcel⟩ ⟨Nat.le_of_ble_eq_true rfl, Nat.le_of_ble_eq_true rfl⟩⟩) rfl rfl (zk_rs (Nat.le_of_ble_eq_true rfl)) dX0_rank_10 ⟨by first | exact Nat.le_of_ble_eq_true rfl | omega | (dsimp only; omega), by first | exact Nat.le_of_ble_eq_true rfl | omega | (dsimp only; omega)⟩)) (fun v10 h => ?_)
    refine zv_if_ne X (tgt := 18) dX0_rank_13 (by decide) h (fun h => ?_) (fun h => ?_)
    · refine zv_iconst X (v := 0) dX0_rank_18 rfl ?_
      refine zv_istore_n X (i := 3) (L' := [(3, .int (0)), (0, va_rf (some this)), (1, .int (x1)), (2, .int (x2))]) dX0_rank_19 rfl (by decide) rfl ?_
      refine zv_new X zk_nc10 q1628 (by first | exact Nat.le_of_ble_eq_true rfl | omega | (dsimp only; omega)) (by first | exact Nat.le_of_ble_eq_true rfl | omega | (dsimp only; omega)) dX0_rank_20 h (fun v20 P20 h => ?_)
      refine zv_dup X dX0_rank_23 (zk_rc _) ?_
      refine zv_aload_n X 1 dX0_rank_24 rfl ?_
      refine zv_getf_r X fo_q402 dX0_rank_25 h (fun v25 h => ?_)
      refine zv_iload_n X 3 dX0_rank_28 rfl ?_
      refine zv_cv ((zr_I X (As := [va_rf (v25), .int (x2)]) (rest := [va_rf (some v20)]) (wk_X12_init l h) (cwI 2 X.hts (lw_meth q1632) rfl rfl rfl (X.w q136) (X.w q1630) (X.w q1631) rfl md_X12_init ⟨Nat.le_of_ble_eq_true rfl, Nat.le_of_ble_eq_true rfl⟩) rfl rfl (zk_rs (Nat.le_of_ble_eq_true rfl)) dX0_rank_29 ⟨by first | exact Nat.le_of_ble_eq_true rfl | omega | (dsimp only; omega), by first | exact Nat.le_of_ble_eq_true rfl | omega | (dsimp only; omega)⟩)) (fun P29 h => ?_)
      refine zv_cq ((zr_Vl X (As := []) (rest := []) h (fun a h => wk_X12_iterator l h) (zk_l1 ⟨_, rfl, cwV 0 X.hts (lw_V q1641 q1642 q1643 q136 q1644) rfl rfl rfl ⟨rfl, md_X12_iterator⟩ ⟨Nat.le_of_ble_eq_true rfl, Nat.le_of_ble_eq_true rfl⟩⟩) rfl rfl (zk_rs (Nat.le_of_ble_eq_true rfl)) dX0_rank_32 ⟨by first | exact Nat.le_of_ble_eq_true rfl | omega | (dsimp only; omega), by first | exact Nat.le_of_ble_eq_true rfl | omega | (dsimp only; omega)⟩)) (fun v32 P32 h => ?_)
      refine zv_astore X (L' := [(4, va_rf (v32)), (3, .int (0)), (0, va_rf (some this)), (1, .int (x1)), (2, .int (x2))]) dX0_rank_35 (by decide) rfl ?_
      refine zv_sub (L' := [(1, .int (x1)), (3, .int (0)), (4, va_rf (v32))]) [3, 1, 0] rfl ?_
      obtain ⟨n35, h⟩ := h
      refine zv_widen (c2 := 2) (s2 := 4) (by first | exact Nat.le_refl _ | omega) (by first | exact Nat.le_refl _ | omega) ?_
      exact kl_X0_rank_37 X  n35 _ _ h
    · refine zv_iconst X (v := -1) dX0_rank_16 rfl ?_
      exact zv_iret X rfl (by first | exact Nat.le_of_ble_eq_true rfl | omega | (dsimp only; omega)) (by first | exact Nat.le_of_ble_eq_true rfl | omega | (dsimp only; omega)) dX0_rank_17 h
theorem kj_X0_isOnPiece_39 {p : Program} {l : Launch} {e : Env} {s : State} {m : MethodId} {args : Array Value} {below : List Frame} {meth : Method} {c : Code} {D : zk_G} {g : zk_M} {b0 : Nat} (X : zk_X p s m args meth c D g b0 cX0_isOnPiece 6 "LandFolio" "isOnPiece" (some Jvm.ClassFile.FieldType.boolean)) {post : Int32 → Prop}  {a4 : Int32} {s0 : Int32} {P : zk_H}    (hh : wj_X0_isOnPiece_39 post a4 s0 P) : zV p l e ({ frames := 0, cells := 0, slots := 0, locals := 0 } : Room) s m args below meth c D b0 6 (0) (0) (MQ below (va_Qi (fun r u => post r ∧ u = P) (zk_B D b0) (zk_A b0)) args s 0 0 (zk_A b0)) P 39 [(4, .int (a4))] [.int (s0)] := by
  have h := hh
  unfold wj_X0_isOnPiece_39 at h
  refine zv_iload X 0 dX0_isOnPiece_39 rfl ?_
  refine zv_icmp_ne X (tgt := 48) dX0_isOnPiece_41 (by decide) h (fun h => ?_) (fun h => ?_)
  · refine zv_iconst X (v := 0) dX0_isOnPiece_48 rfl ?_
    exact zv_zret X (ty := .boolean) rfl (by first | exact Nat.le_of_ble_eq_true rfl | omega | (dsimp only; omega)) (by first | exact Nat.le_of_ble_eq_true rfl | omega | (dsimp only; omega)) dX0_isOnPiece_49 ⟨rfl, ⟨h, rfl⟩⟩
  · refine zv_iconst X (v := 1) dX0_isOnPiece_44 rfl ?_
    refine zv_goto X (tgt := 49) dX0_isOnPiece_45 (by decide) ?_
    exact zv_zret X (ty := .boolean) rfl (by first | exact Nat.le_of_ble_eq_true rfl | omega | (dsimp only; omega)) (by first | exact Nat.le_of_ble_eq_true rfl | omega | (dsimp only; omega)) dX0_isOnPiece_49 ⟨rfl, ⟨h, rfl⟩⟩
theorem kj_X0_isOnPiece_26 {p : Program} {l : Launch} {e : Env} {s : State} {m : MethodId} {args : Array Value} {below : List Frame} {meth : Method} {c : Code} {D : zk_G} {g : zk_M} {b0 : Nat} (X : zk_X p s m args meth c D g b0 cX0_isOnPiece 6 "LandFolio" "isOnPiece" (some Jvm.ClassFile.FieldType.boolean)) {post : Int32 → Prop}  {a3 : Int32} {a4 : Int32} {s0 : Int32} {P : zk_H}    (hh : wj_X0_isOnPiece_26 post a3 a4 s0 P) : zV p l e ({ frames := 0, cells := 0, slots := 0, locals := 0 } : Room) s m args below meth c D b0 6 (0) (0) (MQ below (va_Qi (fun r u => post r ∧ u = P) (zk_B D b0) (zk_A b0)) args s 0 0 (zk_A b0)) P 26 [(3, .int (a3)), (4, .int (a4))] [.int (s0)] := by
  have h := hh
  unfold wj_X0_isOnPiece_26 at h
  refine zv_istore X (L' := [(5, .int (s0)), (3, .int (a3)), (4, .int (a4))]) dX0_isOnPiece_26 (by decide) rfl ?_
  refine zv_iload X 0 dX0_isOnPiece_28 rfl ?_
  refine zv_iload_n X 1 dX0_isOnPiece_30 rfl ?_
  refine zv_icmp_ge X (tgt := 38) dX0_isOnPiece_31 (by decide) h (fun h => ?_) (fun h => ?_)
  · refine zv_iconst X (v := 0) dX0_isOnPiece_38 rfl ?_
    refine zv_sub (L' := [(4, .int (a4))]) [2] rfl ?_
    exact kj_X0_isOnPiece_39 X  h
  · refine zv_iconst X (v := 1) dX0_isOnPiece_34 rfl ?_
    refine zv_goto X (tgt := 39) dX0_isOnPiece_35 (by decide) ?_
    refine zv_sub (L' := [(4, .int (a4))]) [2] rfl ?_
    exact kj_X0_isOnPiece_39 X  h
theorem md_X0_isOnPiece : yX0_isOnPiece.cls ≠ "java/lang/invoke/MethodHandle" ∧ yX0_isOnPiece.cls ≠ "java/lang/invoke/VarHandle" ∧ (parseMethodDescriptor yX0_isOnPiece.desc).map (fun d => d.parameters.length) = some 5 := by decide +kernel
theorem wk_X0_isOnPiece (l : Launch) {D : zk_G} {g : zk_M} {b0 : Nat} {post : Int32 → Prop} {x0 : Option Nat} {x1 : Option Nat} {x2 : Int32} {x3 : Int32} {x4 : Int32} {P : zk_H} (hh : wp_X0_isOnPiece post x0 x1 x2 x3 x4 P) : Met l yX0_isOnPiece (ws_ yX0_isOnPiece cX0_isOnPiece 6 (some Jvm.ClassFile.FieldType.boolean)) ({ frames := 0, cells := 0, slots := 0, locals := 0 } : Room) (va_Pc [va_rf (x0), va_rf (x1), .int (x2), .int (x3), .int (x4)] (zk_pre D g b0 P)) (va_Qi (fun r u => post r ∧ u = P) (zk_B D b0) (zk_A b0)) 0 0 (zk_A b0) := by
  refine zk_enter "LandFolio" "isOnPiece" rfl rfl (plainFor_of_name (by decide)) [va_rf (x0), va_rf (x1), .int (x2), .int (x3), .int (x4)] (by cases x0 <;> cases x1 <;> exact Nat.le_of_ble_eq_true rfl) ?_
  intro p e s m args below meth c X
  refine zk_at0 (L' := [(0, va_rf (x0)), (1, va_rf (x1)), (2, .int (x2)), (3, .int (x3)), (4, .int (x4))]) (by cases x0 <;> cases x1 <;> rfl) ?_
  have h := hh
  unfold wp_X0_isOnPiece at h
  refine zv_iload_n X 2 dX0_isOnPiece_0 rfl ?_
  refine zv_iconst X (v := 1) dX0_isOnPiece_1 rfl ?_
  refine zv_icmp_ne X (tgt := 17) dX0_isOnPiece_2 (by decide) h (fun h => ?_) (fun h => ?_)
  · refine zv_aload_n X 1 dX0_isOnPiece_17 rfl ?_
    refine zv_getf_i X fo_q632 dX0_isOnPiece_18 h (fun v18 h => ?_)
    refine zv_aload_n X 0 dX0_isOnPiece_21 rfl ?_
    refine zv_getf_i X fo_q309 dX0_isOnPiece_22 h (fun v22 h => ?_)
    refine zv_isub X dX0_isOnPiece_25 ?_
    refine zv_sub (L' := [(3, .int (x3)), (4, .int (x4))]) [3, 4] rfl ?_
    exact kj_X0_isOnPiece_26 X  h
  · refine zv_aload_n X 1 dX0_isOnPiece_5 rfl ?_
    refine zv_getf_i X fo_q635 dX0_isOnPiece_6 h (fun v6 h => ?_)
    refine zv_aload_n X 0 dX0_isOnPiece_9 rfl ?_
    refine zv_getf_i X fo_q312 dX0_isOnPiece_10 h (fun v10 h => ?_)
    refine zv_isub X dX0_isOnPiece_13 ?_
    refine zv_goto X (tgt := 26) dX0_isOnPiece_14 (by decide) ?_
    refine zv_sub (L' := [(3, .int (x3)), (4, .int (x4))]) [3, 4] rfl ?_
    exact kj_X0_isOnPiece_26 X  h
theorem kj_X0_burdensOfPiece_84 {p : Program} {l : Launch} {e : Env} {s : State} {m : MethodId} {args : Array Value} {below : List Frame} {meth : Method} {c : Code} {D : zk_G} {g : zk_M} {b0 : Nat} (X : zk_X p s m args meth c D g b0 cX0_burdensOfPiece 9 "LandFolio" "burdensOfPiece" (some Jvm.ClassFile.FieldType.int)) {post : Int32 → zk_H → Prop} {K20 : Int32 → zk_H → Prop} {a0 : Option Nat} {a1 : Int32} {a2 : Int32} {a3 : Int32} {a4 : Int32} {a6 : Option Nat} {s0 : Int32} {s1 : Int32} {P : zk_H}  (hK20 : ∀ (u5 : Int32) (U : zk_H), K20 u5 U → zV p l e ({ frames := 7, cells := 2, slots := 4, locals := 151 } : Room) s m args below meth c D b0 9 (2) (4) (MQ below (va_Qi post (zk_B D b0) (zk_A b0)) args s 2 4 (zk_A b0)) U 20 [(0, va_rf (a0)), (1, .int (a1)), (2, .int (a2)), (3, .int (a3)), (4, .int (a4)), (5, .int (u5)), (6, va_rf (a6))] [])  (hh : wj_X0_burdensOfPiece_84 post K20 a0 a1 a2 a3 a4 a6 s0 s1 P) : zV p l e ({ frames := 7, cells := 2, slots := 4, locals := 151 } : Room) s m args below meth c D b0 9 (2) (4) (MQ below (va_Qi post (zk_B D b0) (zk_A b0)) args s 2 4 (zk_A b0)) P 84 [(0, va_rf (a0)), (1, .int (a1)), (2, .int (a2)), (3, .int (a3)), (4, .int (a4)), (6, va_rf (a6))] [.int (s0), .int (s1)] := by
  have h := hh
  unfold wj_X0_burdensOfPiece_84 at h
  refine zv_iadd X dX0_burdensOfPiece_84 ?_
  refine zv_top_i h (fun v85 h => ?_)
  refine zv_istore X (L' := [(5, .int (v85)), (0, va_rf (a0)), (1, .int (a1)), (2, .int (a2)), (3, .int (a3)), (4, .int (a4)), (6, va_rf (a6))]) dX0_burdensOfPiece_85 (by decide) rfl ?_
  refine zv_goto X (tgt := 20) dX0_burdensOfPiece_87 (by decide) ?_
  refine zv_sub (L' := [(0, va_rf (a0)), (1, .int (a1)), (2, .int (a2)), (3, .int (a3)), (4, .int (a4)), (5, .int (v85)), (6, va_rf (a6))]) [1, 2, 3, 4, 5, 0, 6] rfl ?_
  refine zv_widen (c2 := 2) (s2 := 4) (by first | exact Nat.le_refl _ | omega) (by first | exact Nat.le_refl _ | omega) ?_
  exact hK20 _ _ h
theorem kj_X0_burdensOfPiece_79 {p : Program} {l : Launch} {e : Env} {s : State} {m : MethodId} {args : Array Value} {below : List Frame} {meth : Method} {c : Code} {D : zk_G} {g : zk_M} {b0 : Nat} (X : zk_X p s m args meth c D g b0 cX0_burdensOfPiece 9 "LandFolio" "burdensOfPiece" (some Jvm.ClassFile.FieldType.int)) {post : Int32 → zk_H → Prop} {K20 : Int32 → zk_H → Prop} {a0 : Option Nat} {a1 : Int32} {a2 : Int32} {a3 : Int32} {a4 : Int32} {a6 : Option Nat} {s0 : Int32} {P : zk_H}  (hK20 : ∀ (u5 : Int32) (U : zk_H), K20 u5 U → zV p l e ({ frames := 7, cells := 2, slots := 4, locals := 151 } : Room) s m args below meth c D b0 9 (2) (4) (MQ below (va_Qi post (zk_B D b0) (zk_A b0)) args s 2 4 (zk_A b0)) U 20 [(0, va_rf (a0)), (1, .int (a1)), (2, .int (a2)), (3, .int (a3)), (4, .int (a4)), (5, .int (u5)), (6, va_rf (a6))] [])  (hh : wj_X0_burdensOfPiece_79 post K20 a0 a1 a2 a3 a4 a6 s0 P) : zV p l e ({ frames := 7, cells := 2, slots := 4, locals := 151 } : Room) s m args below meth c D b0 9 (2) (4) (MQ below (va_Qi post (zk_B D b0) (zk_A b0)) args s 2 4 (zk_A b0)) P 79 [(0, va_rf (a0)), (1, .int (a1)), (2, .int (a2)), (3, .int (a3)), (4, .int (a4)), (6, va_rf (a6))] [.int (s0)] := by
  have h := hh
  unfold wj_X0_burdensOfPiece_79 at h
  refine zv_iconst X (v := 1) dX0_burdensOfPiece_79 rfl ?_
  refine zv_goto X (tgt := 84) dX0_burdensOfPiece_80 (by decide) ?_
  refine zv_widen (c2 := 2) (s2 := 4) (by first | exact Nat.le_of_ble_eq_true rfl | omega | (dsimp only; omega)) (by first | exact Nat.le_of_ble_eq_true rfl | omega | (dsimp only; omega)) ?_
  exact kj_X0_burdensOfPiece_84 X hK20 h
theorem kb_X0_burdensOfPiece_20 {p : Program} {l : Launch} {e : Env} {s : State} {m : MethodId} {args : Array Value} {below : List Frame} {meth : Method} {c : Code} {D : zk_G} {g : zk_M} {b0 : Nat} (X : zk_X p s m args meth c D g b0 cX0_burdensOfPiece 9 "LandFolio" "burdensOfPiece" (some Jvm.ClassFile.FieldType.int)) {post : Int32 → zk_H → Prop}  {K20 : Int32 → zk_H → Prop} {a0 : Option Nat} {a1 : Int32} {a2 : Int32} {a3 : Int32} {a4 : Int32} {a5 : Int32} {a6 : Option Nat} {P : zk_H}   (hK20 : ∀ (u5 : Int32) (U : zk_H), K20 u5 U → zV p l e ({ frames := 7, cells := 2, slots := 4, locals := 151 } : Room) s m args below meth c D b0 9 (2) (4) (MQ below (va_Qi post (zk_B D b0) (zk_A b0)) args s 2 4 (zk_A b0)) U 20 [(0, va_rf (a0)), (1, .int (a1)), (2, .int (a2)), (3, .int (a3)), (4, .int (a4)), (5, .int (u5)), (6, va_rf (a6))] [])  (hh : wb_X0_burdensOfPiece_20 post a0 a1 a2 a3 a4 a6 K20 a5 P) : zV p l e ({ frames := 7, cells := 2, slots := 4, locals := 151 } : Room) s m args below meth c D b0 9 (2) (4) (MQ below (va_Qi post (zk_B D b0) (zk_A b0)) args s 2 4 (zk_A b0)) P 20 [(0, va_rf (a0)), (1, .int (a1)), (2, .int (a2)), (3, .int (a3)), (4, .int (a4)), (5, .int (a5)), (6, va_rf (a6))] [] := by
  have h := hh
  unfold wb_X0_burdensOfPiece_20 at h
  refine zv_aload X 6 dX0_burdensOfPiece_20 rfl ?_
  refine zv_ciR5 ((zr_Fl X (As := []) (rest := []) h (fun a h => wk_X13_hasNext l h) (zk_l1 ⟨_, rfl, va_cwF 0 X.hts (zk_wsF q1666 q1670 q1672 q137 q1674) rfl rfl rfl (X.fw (i := 1) rfl) ⟨by decide, by decide, md_X13_hasNext.2.2⟩ ⟨Nat.le_of_ble_eq_true rfl, Nat.le_of_ble_eq_true rfl⟩⟩) rfl rfl (zk_rs (Nat.le_of_ble_eq_true rfl)) dX0_burdensOfPiece_22 ⟨by first | exact Nat.le_of_ble_eq_true rfl | omega | (dsimp only; omega), by first | exact Nat.le_of_ble_eq_true rfl | omega | (dsimp only; omega)⟩)) (fun v22 h => ?_)
  refine zv_if_eq X (tgt := 90) dX0_burdensOfPiece_27 (by decide) h (fun h => ?_) (fun h => ?_)
  · refine zv_iload X 5 dX0_burdensOfPiece_90 rfl ?_
    exact zv_iret X rfl (by first | exact Nat.le_of_ble_eq_true rfl | omega | (dsimp only; omega)) (by first | exact Nat.le_of_ble_eq_true rfl | omega | (dsimp only; omega)) dX0_burdensOfPiece_92 h
  · refine zv_aload X 6 dX0_burdensOfPiece_30 rfl ?_
    refine zv_cq5 ((zr_Fl X (As := []) (rest := []) h (fun a h => wk_X13_next l h) (zk_l1 ⟨_, rfl, va_cwF 0 X.hts (zk_wsF q1676 q1679 q1681 q137 q1683) rfl rfl rfl (X.fw (i := 2) rfl) ⟨by decide, by decide, md_X13_next.2.2⟩ ⟨Nat.le_of_ble_eq_true rfl, Nat.le_of_ble_eq_true rfl⟩⟩) rfl rfl (zk_rs (Nat.le_of_ble_eq_true rfl)) dX0_burdensOfPiece_32 ⟨by first | exact Nat.le_of_ble_eq_true rfl | omega | (dsimp only; omega), by first | exact Nat.le_of_ble_eq_true rfl | omega | (dsimp only; omega)⟩)) (fun v32 P32 h => ?_)
    refine zv_cast X zk_cs1 q1711 dX0_burdensOfPiece_37 h (fun h => ?_)
    refine zv_astore X (L' := [(7, va_rf (v32)), (0, va_rf (a0)), (1, .int (a1)), (2, .int (a2)), (3, .int (a3)), (4, .int (a4)), (5, .int (a5)), (6, va_rf (a6))]) dX0_burdensOfPiece_40 (by decide) (by simp [zk_s1, zk_s2, zk_rc, zk_ic, zk_jc]) ?_
    refine zv_iload X 6 dX0_burdensOfPiece_42 rfl ?_
    refine zv_aload X 0 dX0_burdensOfPiece_44 rfl ?_
    refine zv_inst X zk_cs6 (zk_l1 ⟨_, rfl, X.nc (i := 0) rfl⟩) q1486 dX0_burdensOfPiece_46 h (fun v46 h => ?_)
    refine zv_if_eq X (tgt := 79) dX0_burdensOfPiece_49 (by decide) h (fun h => ?_) (fun h => ?_)
    · refine zv_sub (L' := [(0, va_rf (a0)), (1, .int (a1)), (2, .int (a2)), (3, .int (a3)), (4, .int (a4)), (6, va_rf (a6))]) [1, 2, 3, 4, 5, 7] rfl ?_
      refine zv_widen (c2 := 2) (s2 := 4) (by first | exact Nat.le_of_ble_eq_true rfl | omega | (dsimp only; omega)) (by first | exact Nat.le_of_ble_eq_true rfl | omega | (dsimp only; omega)) ?_
      exact kj_X0_burdensOfPiece_79 X hK20 h
    · refine zv_aload X 0 dX0_burdensOfPiece_52 rfl ?_
      refine zv_cast X zk_cs6 q1486 dX0_burdensOfPiece_54 h (fun h => ?_)
      refine zv_astore X (L' := [(8, va_rf (v32)), (7, va_rf (v32)), (0, va_rf (a0)), (1, .int (a1)), (2, .int (a2)), (3, .int (a3)), (4, .int (a4)), (5, .int (a5)), (6, va_rf (a6))]) dX0_burdensOfPiece_57 (by decide) (by simp [zk_s1, zk_s2, zk_rc, zk_ic, zk_jc]) ?_
      refine zv_aload_n X 2 dX0_burdensOfPiece_59 rfl ?_
      refine zv_getf_r X fo_q402 dX0_burdensOfPiece_60 h (fun v60 h => ?_)
      refine zv_iload_n X 3 dX0_burdensOfPiece_63 rfl ?_
      refine zv_cqR ((zr_Vl X (As := [.int (a1)]) (rest := [.int (a5)]) h (fun a h => wk_X1_parcel l h) (zk_l1 ⟨_, rfl, cwV 1 X.hts (lw_V q1371 q502 q503 q103 q504) rfl rfl rfl ⟨rfl, md_X1_parcel⟩ ⟨Nat.le_of_ble_eq_true rfl, Nat.le_of_ble_eq_true rfl⟩⟩) rfl rfl (zk_rs (Nat.le_of_ble_eq_true rfl)) dX0_burdensOfPiece_64 ⟨by first | exact Nat.le_of_ble_eq_true rfl | omega | (dsimp only; omega), by first | exact Nat.le_of_ble_eq_true rfl | omega | (dsimp only; omega)⟩)) (fun v64 h => ?_)
      refine zv_aload X 0 dX0_burdensOfPiece_67 rfl ?_
      refine zv_iload_n X 4 dX0_burdensOfPiece_69 rfl ?_
      refine zv_iload_n X 5 dX0_burdensOfPiece_70 rfl ?_
      refine zv_iload X 6 dX0_burdensOfPiece_71 rfl ?_
      refine zv_ciR ((zr_S X (As := [va_rf (v64), va_rf (v32), .int (a2), .int (a3), .int (a4)]) (rest := [.int (a5)]) (wk_X0_isOnPiece l h) (va_cwS 5 X.hts (lw_S q1835 q1836 q102 q1837) rfl rfl rfl md_X0_isOnPiece ⟨Nat.le_of_ble_eq_true rfl, Nat.le_of_ble_eq_true rfl⟩) rfl rfl (zk_rs (Nat.le_of_ble_eq_true rfl)) dX0_burdensOfPiece_73 ⟨by first | exact Nat.le_of_ble_eq_true rfl | omega | (dsimp only; omega), by first | exact Nat.le_of_ble_eq_true rfl | omega | (dsimp only; omega)⟩)) (fun v73 h => ?_)
      refine zv_if_eq X (tgt := 83) dX0_burdensOfPiece_76 (by decide) h (fun h => ?_) (fun h => ?_)
      · refine zv_iconst X (v := 0) dX0_burdensOfPiece_83 rfl ?_
        refine zv_sub (L' := [(0, va_rf (a0)), (1, .int (a1)), (2, .int (a2)), (3, .int (a3)), (4, .int (a4)), (6, va_rf (a6))]) [2, 3, 4, 5, 6, 8] rfl ?_
        refine zv_widen (c2 := 2) (s2 := 4) (by first | exact Nat.le_of_ble_eq_true rfl | omega | (dsimp only; omega)) (by first | exact Nat.le_of_ble_eq_true rfl | omega | (dsimp only; omega)) ?_
        exact kj_X0_burdensOfPiece_84 X hK20 h
      · refine zv_sub (L' := [(0, va_rf (a0)), (1, .int (a1)), (2, .int (a2)), (3, .int (a3)), (4, .int (a4)), (6, va_rf (a6))]) [2, 3, 4, 5, 6, 8] rfl ?_
        refine zv_widen (c2 := 2) (s2 := 4) (by first | exact Nat.le_of_ble_eq_true rfl | omega | (dsimp only; omega)) (by first | exact Nat.le_of_ble_eq_true rfl | omega | (dsimp only; omega)) ?_
        exact kj_X0_burdensOfPiece_79 X hK20 h
theorem kl_X0_burdensOfPiece_20 {p : Program} {l : Launch} {e : Env} {s : State} {m : MethodId} {args : Array Value} {below : List Frame} {meth : Method} {c : Code} {D : zk_G} {g : zk_M} {b0 : Nat} (X : zk_X p s m args meth c D g b0 cX0_burdensOfPiece 9 "LandFolio" "burdensOfPiece" (some Jvm.ClassFile.FieldType.int)) {post : Int32 → zk_H → Prop}  {a0 : Option Nat} {a1 : Int32} {a2 : Int32} {a3 : Int32} {a4 : Int32} {a6 : Option Nat}   : ∀ (n : Nat) (a5 : Int32) (P : zk_H), wl_X0_burdensOfPiece_20 post a0 a1 a2 a3 a4 a6 n a5 P → zV p l e ({ frames := 7, cells := 2, slots := 4, locals := 151 } : Room) s m args below meth c D b0 9 (2) (4) (MQ below (va_Qi post (zk_B D b0) (zk_A b0)) args s 2 4 (zk_A b0)) P 20 [(0, va_rf (a0)), (1, .int (a1)), (2, .int (a2)), (3, .int (a3)), (4, .int (a4)), (5, .int (a5)), (6, va_rf (a6))] [] := by
  intro n
  induction n with
  | zero => intro _ _ h; exact h.elim
  | succ n ih =>
    intro a5 P h
    exact kb_X0_burdensOfPiece_20 X  (fun u0 u1 h => ih _ _ h)  h
theorem md_X0_burdensOfPiece : yX0_burdensOfPiece.cls ≠ "java/lang/invoke/MethodHandle" ∧ yX0_burdensOfPiece.cls ≠ "java/lang/invoke/VarHandle" ∧ (parseMethodDescriptor yX0_burdensOfPiece.desc).map (fun d => d.parameters.length) = some 4 := by decide +kernel
theorem wk_X0_burdensOfPiece (l : Launch) {D : zk_G} {g : zk_M} {b0 : Nat} {post : Int32 → zk_H → Prop} {this : Nat} {x1 : Int32} {x2 : Int32} {x3 : Int32} {x4 : Int32} {P : zk_H} (hh : wp_X0_burdensOfPiece post this x1 x2 x3 x4 P) : Met l yX0_burdensOfPiece (ws_ yX0_burdensOfPiece cX0_burdensOfPiece 9 (some Jvm.ClassFile.FieldType.int)) ({ frames := 7, cells := 2, slots := 4, locals := 151 } : Room) (va_Pc [.ref this, .int (x1), .int (x2), .int (x3), .int (x4)] (zk_pre D g b0 P)) (va_Qi post (zk_B D b0) (zk_A b0)) 2 4 (zk_A b0) := by
  refine zk_enter "LandFolio" "burdensOfPiece" rfl rfl (plainFor_of_name (by decide)) [.ref this, .int (x1), .int (x2), .int (x3), .int (x4)] (Nat.le_of_ble_eq_true rfl) ?_
  intro p e s m args below meth c X
  refine zk_at0 (L' := [(0, va_rf (some this)), (1, .int (x1)), (2, .int (x2)), (3, .int (x3)), (4, .int (x4))]) (rfl) ?_
  have h := hh
  unfold wp_X0_burdensOfPiece at h
  refine zv_iconst X (v := 0) dX0_burdensOfPiece_0 rfl ?_
  refine zv_istore X (L' := [(5, .int (0)), (0, va_rf (some this)), (1, .int (x1)), (2, .int (x2)), (3, .int (x3)), (4, .int (x4))]) dX0_burdensOfPiece_1 (by decide) rfl ?_
  refine zv_new X zk_nc10 q1628 (by first | exact Nat.le_of_ble_eq_true rfl | omega | (dsimp only; omega)) (by first | exact Nat.le_of_ble_eq_true rfl | omega | (dsimp only; omega)) dX0_burdensOfPiece_3 h (fun v3 P3 h => ?_)
  refine zv_dup X dX0_burdensOfPiece_6 (zk_rc _) ?_
  refine zv_aload_n X 1 dX0_burdensOfPiece_7 rfl ?_
  refine zv_getf_r X fo_q402 dX0_burdensOfPiece_8 h (fun v8 h => ?_)
  refine zv_iload_n X 2 dX0_burdensOfPiece_11 rfl ?_
  refine zv_cv ((zr_I X (As := [va_rf (v8), .int (x1)]) (rest := [va_rf (some v3)]) (wk_X12_init l h) (cwI 2 X.hts (lw_meth q1632) rfl rfl rfl (X.w q136) (X.w q1630) (X.w q1631) rfl md_X12_init ⟨Nat.le_of_ble_eq_true rfl, Nat.le_of_ble_eq_true rfl⟩) rfl rfl (zk_rs (Nat.le_of_ble_eq_true rfl)) dX0_burdensOfPiece_12 ⟨by first | exact Nat.le_of_ble_eq_true rfl | omega | (dsimp only; omega), by first | exact Nat.le_of_ble_eq_true rfl | omega | (dsimp only; omega)⟩)) (fun P12 h => ?_)
  refine zv_cq ((zr_Vl X (As := []) (rest := []) h (fun a h => wk_X12_iterator l h) (zk_l1 ⟨_, rfl, cwV 0 X.hts (lw_V q1641 q1642 q1643 q136 q1644) rfl rfl rfl ⟨rfl, md_X12_iterator⟩ ⟨Nat.le_of_ble_eq_true rfl, Nat.le_of_ble_eq_true rfl⟩⟩) rfl rfl (zk_rs (Nat.le_of_ble_eq_true rfl)) dX0_burdensOfPiece_15 ⟨by first | exact Nat.le_of_ble_eq_true rfl | omega | (dsimp only; omega), by first | exact Nat.le_of_ble_eq_true rfl | omega | (dsimp only; omega)⟩)) (fun v15 P15 h => ?_)
  refine zv_astore X (L' := [(6, va_rf (v15)), (5, .int (0)), (0, va_rf (some this)), (1, .int (x1)), (2, .int (x2)), (3, .int (x3)), (4, .int (x4))]) dX0_burdensOfPiece_18 (by decide) rfl ?_
  refine zv_sub (L' := [(0, va_rf (some this)), (1, .int (x1)), (2, .int (x2)), (3, .int (x3)), (4, .int (x4)), (5, .int (0)), (6, va_rf (v15))]) [2, 3, 4, 5, 6, 1, 0] rfl ?_
  obtain ⟨n18, h⟩ := h
  refine zv_widen (c2 := 2) (s2 := 4) (by first | exact Nat.le_refl _ | omega) (by first | exact Nat.le_refl _ | omega) ?_
  exact kl_X0_burdensOfPiece_20 X  n18 _ _ h
theorem kj_X0_ifSplit_124 {p : Program} {l : Launch} {e : Env} {s : State} {m : MethodId} {args : Array Value} {below : List Frame} {meth : Method} {c : Code} {D : zk_G} {g : zk_M} {b0 : Nat} (X : zk_X p s m args meth c D g b0 cX0_ifSplit 9 "LandFolio" "ifSplit" (some Jvm.ClassFile.FieldType.int)) {post : Int32 → zk_H → Prop}  {a0 : Option Nat} {a1 : Int32} {s0 : Int32} {s1 : Int32} {P : zk_H}    (hh : wj_X0_ifSplit_124 post a0 a1 s0 s1 P) : zV p l e ({ frames := 8, cells := 2, slots := 4, locals := 179 } : Room) s m args below meth c D b0 9 (0) (0) (MQ below (va_Qi post (zk_B D b0) (zk_A b0)) args s 2 4 (zk_A b0)) P 124 [(0, va_rf (a0)), (1, .int (a1))] [.int (s0), .int (s1)] := by
  have h := hh
  unfold wj_X0_ifSplit_124 at h
  refine zv_imul X dX0_ifSplit_124 ?_
  refine zv_top_i h (fun v125 h => ?_)
  refine zv_istore X (L' := [(8, .int (v125)), (0, va_rf (a0)), (1, .int (a1))]) dX0_ifSplit_125 (by decide) rfl ?_
  refine zv_iconst X (v := 0) dX0_ifSplit_127 rfl ?_
  refine zv_sipush X (v := 20000) dX0_ifSplit_128 rfl ?_
  refine zv_iload X 0 dX0_ifSplit_131 rfl ?_
  refine zv_aload_n X 1 dX0_ifSplit_133 rfl ?_
  refine zv_getf_r X fo_q402 dX0_ifSplit_134 h (fun v134 h => ?_)
  refine zv_getf_i X fo_q188 dX0_ifSplit_137 h (fun v137 h => ?_)
  refine zv_imul X dX0_ifSplit_140 ?_
  refine zv_iadd X dX0_ifSplit_141 ?_
  refine zv_aload_n X 1 dX0_ifSplit_142 rfl ?_
  refine zv_getf_r X fo_q402 dX0_ifSplit_143 h (fun v143 h => ?_)
  refine zv_iload_n X 2 dX0_ifSplit_146 rfl ?_
  refine zv_ciR ((zr_Vl X (As := [.int (a1)]) (rest := [.int ((20000 : Int32) + (v125 * v137)), .int (0)]) h (fun a h => wk_X1_load l h) (zk_l1 ⟨_, rfl, cwV 1 X.hts (lw_V q1712 q1713 q1714 q103 q1715) rfl rfl rfl ⟨rfl, md_X1_load⟩ ⟨Nat.le_of_ble_eq_true rfl, Nat.le_of_ble_eq_true rfl⟩⟩) rfl rfl (zk_rs (Nat.le_of_ble_eq_true rfl)) dX0_ifSplit_147 ⟨by first | exact Nat.le_of_ble_eq_true rfl | omega | (dsimp only; omega), by first | exact Nat.le_of_ble_eq_true rfl | omega | (dsimp only; omega)⟩)) (fun v147 h => ?_)
  refine zv_isub X dX0_ifSplit_150 ?_
  refine zv_mmax X q1838 ⟨by first | decide | (dsimp only; decide), by first | decide | (dsimp only; decide)⟩ (zk_rs (Nat.le_of_ble_eq_true rfl)) (by first | exact Nat.le_of_ble_eq_true rfl | dsimp only; omega) (by first | exact Nat.le_of_ble_eq_true rfl | dsimp only; omega) dX0_ifSplit_151 ?_
  exact zv_iret X rfl (by first | exact Nat.le_of_ble_eq_true rfl | omega | (dsimp only; omega)) (by first | exact Nat.le_of_ble_eq_true rfl | omega | (dsimp only; omega)) dX0_ifSplit_154 h
theorem kj_X0_ifSplit_102 {p : Program} {l : Launch} {e : Env} {s : State} {m : MethodId} {args : Array Value} {below : List Frame} {meth : Method} {c : Code} {D : zk_G} {g : zk_M} {b0 : Nat} (X : zk_X p s m args meth c D g b0 cX0_ifSplit 9 "LandFolio" "ifSplit" (some Jvm.ClassFile.FieldType.int)) {post : Int32 → zk_H → Prop}  {a0 : Option Nat} {a1 : Int32} {a2 : Int32} {a5 : Option Nat} {s0 : Int32} {P : zk_H}    (hh : wj_X0_ifSplit_102 post a0 a1 a2 a5 s0 P) : zV p l e ({ frames := 8, cells := 2, slots := 4, locals := 179 } : Room) s m args below meth c D b0 9 (0) (0) (MQ below (va_Qi post (zk_B D b0) (zk_A b0)) args s 2 4 (zk_A b0)) P 102 [(0, va_rf (a0)), (1, .int (a1)), (2, .int (a2)), (5, va_rf (a5))] [.int (s0)] := by
  have h := hh
  unfold wj_X0_ifSplit_102 at h
  refine zv_istore X (L' := [(7, .int (s0)), (0, va_rf (a0)), (1, .int (a1)), (2, .int (a2)), (5, va_rf (a5))]) dX0_ifSplit_102 (by decide) rfl ?_
  refine zv_iload X 0 dX0_ifSplit_104 rfl ?_
  refine zv_iload_n X 3 dX0_ifSplit_106 rfl ?_
  refine zv_iconst X (v := 1) dX0_ifSplit_107 rfl ?_
  refine zv_icmp_ne X (tgt := 119) dX0_ifSplit_108 (by decide) h (fun h => ?_) (fun h => ?_)
  · refine zv_aload X 4 dX0_ifSplit_119 rfl ?_
    refine zv_getf_i X fo_q318 dX0_ifSplit_121 h (fun v121 h => ?_)
    refine zv_sub (L' := [(0, va_rf (a0)), (1, .int (a1))]) [1, 2] rfl ?_
    refine zv_widen (c2 := 0) (s2 := 0) (by first | exact Nat.le_of_ble_eq_true rfl | omega | (dsimp only; omega)) (by first | exact Nat.le_of_ble_eq_true rfl | omega | (dsimp only; omega)) ?_
    exact kj_X0_ifSplit_124 X  h
  · refine zv_aload X 4 dX0_ifSplit_111 rfl ?_
    refine zv_getf_i X fo_q314 dX0_ifSplit_113 h (fun v113 h => ?_)
    refine zv_goto X (tgt := 124) dX0_ifSplit_116 (by decide) ?_
    refine zv_sub (L' := [(0, va_rf (a0)), (1, .int (a1))]) [1, 2] rfl ?_
    refine zv_widen (c2 := 0) (s2 := 0) (by first | exact Nat.le_of_ble_eq_true rfl | omega | (dsimp only; omega)) (by first | exact Nat.le_of_ble_eq_true rfl | omega | (dsimp only; omega)) ?_
    exact kj_X0_ifSplit_124 X  h
theorem kj_X0_ifSplit_100 {p : Program} {l : Launch} {e : Env} {s : State} {m : MethodId} {args : Array Value} {below : List Frame} {meth : Method} {c : Code} {D : zk_G} {g : zk_M} {b0 : Nat} (X : zk_X p s m args meth c D g b0 cX0_ifSplit 9 "LandFolio" "ifSplit" (some Jvm.ClassFile.FieldType.int)) {post : Int32 → zk_H → Prop}  {a0 : Option Nat} {a1 : Int32} {a2 : Int32} {a3 : Int32} {a5 : Option Nat} {s0 : Int32} {P : zk_H}    (hh : wj_X0_ifSplit_100 post a0 a1 a2 a3 a5 s0 P) : zV p l e ({ frames := 8, cells := 2, slots := 4, locals := 179 } : Room) s m args below meth c D b0 9 (0) (0) (MQ below (va_Qi post (zk_B D b0) (zk_A b0)) args s 2 4 (zk_A b0)) P 100 [(0, va_rf (a0)), (1, .int (a1)), (2, .int (a2)), (3, .int (a3)), (5, va_rf (a5))] [.int (s0)] := by
  have h := hh
  unfold wj_X0_ifSplit_100 at h
  refine zv_iload_n X 3 dX0_ifSplit_100 rfl ?_
  refine zv_isub X dX0_ifSplit_101 ?_
  refine zv_sub (L' := [(0, va_rf (a0)), (1, .int (a1)), (2, .int (a2)), (5, va_rf (a5))]) [0, 1, 2, 4] rfl ?_
  refine zv_widen (c2 := 0) (s2 := 0) (by first | exact Nat.le_of_ble_eq_true rfl | omega | (dsimp only; omega)) (by first | exact Nat.le_of_ble_eq_true rfl | omega | (dsimp only; omega)) ?_
  exact kj_X0_ifSplit_102 X  h
theorem kj_X0_ifSplit_55 {p : Program} {l : Launch} {e : Env} {s : State} {m : MethodId} {args : Array Value} {below : List Frame} {meth : Method} {c : Code} {D : zk_G} {g : zk_M} {b0 : Nat} (X : zk_X p s m args meth c D g b0 cX0_ifSplit 9 "LandFolio" "ifSplit" (some Jvm.ClassFile.FieldType.int)) {post : Int32 → zk_H → Prop}  {a0 : Option Nat} {a1 : Int32} {a2 : Int32} {a3 : Int32} {a4 : Int32} {a5 : Option Nat} {s0 : Int32} {P : zk_H}    (hh : wj_X0_ifSplit_55 post a0 a1 a2 a3 a4 a5 s0 P) : zV p l e ({ frames := 8, cells := 2, slots := 4, locals := 179 } : Room) s m args below meth c D b0 9 (0) (0) (MQ below (va_Qi post (zk_B D b0) (zk_A b0)) args s 2 4 (zk_A b0)) P 55 [(0, va_rf (a0)), (1, .int (a1)), (2, .int (a2)), (3, .int (a3)), (4, .int (a4)), (5, va_rf (a5))] [.int (s0)] := by
  have h := hh
  unfold wj_X0_ifSplit_55 at h
  refine zv_istore X (L' := [(6, .int (s0)), (0, va_rf (a0)), (1, .int (a1)), (2, .int (a2)), (3, .int (a3)), (4, .int (a4)), (5, va_rf (a5))]) dX0_ifSplit_55 (by decide) (by simp [zk_s1, zk_s2, zk_rc, zk_ic, zk_jc]) ?_
  refine zv_iload X 5 dX0_ifSplit_57 rfl ?_
  refine zv_iconst X (v := 2) dX0_ifSplit_59 rfl ?_
  refine zv_icmp_ge X (tgt := 73) dX0_ifSplit_60 (by decide) h (fun h => ?_) (fun h => ?_)
  · refine zv_iload X 0 dX0_ifSplit_73 rfl ?_
    refine zv_if_eq X (tgt := 82) dX0_ifSplit_75 (by decide) h (fun h => ?_) (fun h => ?_)
    · refine zv_iload_n X 3 dX0_ifSplit_82 rfl ?_
      refine zv_iconst X (v := 1) dX0_ifSplit_83 rfl ?_
      refine zv_icmp_ne X (tgt := 95) dX0_ifSplit_84 (by decide) h (fun h => ?_) (fun h => ?_)
      · refine zv_aload X 6 dX0_ifSplit_95 rfl ?_
        refine zv_getf_i X fo_q314 dX0_ifSplit_97 h (fun v97 h => ?_)
        refine zv_sub (L' := [(0, va_rf (a0)), (1, .int (a1)), (2, .int (a2)), (3, .int (a3)), (5, va_rf (a5))]) [1, 2, 3, 4, 6] rfl ?_
        refine zv_widen (c2 := 0) (s2 := 0) (by first | exact Nat.le_of_ble_eq_true rfl | omega | (dsimp only; omega)) (by first | exact Nat.le_of_ble_eq_true rfl | omega | (dsimp only; omega)) ?_
        exact kj_X0_ifSplit_100 X  h
      · refine zv_aload X 6 dX0_ifSplit_87 rfl ?_
        refine zv_getf_i X fo_q318 dX0_ifSplit_89 h (fun v89 h => ?_)
        refine zv_goto X (tgt := 100) dX0_ifSplit_92 (by decide) ?_
        refine zv_sub (L' := [(0, va_rf (a0)), (1, .int (a1)), (2, .int (a2)), (3, .int (a3)), (5, va_rf (a5))]) [1, 2, 3, 4, 6] rfl ?_
        refine zv_widen (c2 := 0) (s2 := 0) (by first | exact Nat.le_of_ble_eq_true rfl | omega | (dsimp only; omega)) (by first | exact Nat.le_of_ble_eq_true rfl | omega | (dsimp only; omega)) ?_
        exact kj_X0_ifSplit_100 X  h
    · refine zv_iload_n X 4 dX0_ifSplit_78 rfl ?_
      refine zv_goto X (tgt := 102) dX0_ifSplit_79 (by decide) ?_
      refine zv_sub (L' := [(0, va_rf (a0)), (1, .int (a1)), (2, .int (a2)), (5, va_rf (a5))]) [1, 2, 3, 6] rfl ?_
      refine zv_widen (c2 := 0) (s2 := 0) (by first | exact Nat.le_of_ble_eq_true rfl | omega | (dsimp only; omega)) (by first | exact Nat.le_of_ble_eq_true rfl | omega | (dsimp only; omega)) ?_
      exact kj_X0_ifSplit_102 X  h
  · refine zv_aload_n X 1 dX0_ifSplit_63 rfl ?_
    refine zv_iload_n X 2 dX0_ifSplit_64 rfl ?_
    refine zv_iload_n X 3 dX0_ifSplit_65 rfl ?_
    refine zv_iload_n X 4 dX0_ifSplit_66 rfl ?_
    refine zv_iload X 0 dX0_ifSplit_67 rfl ?_
    refine zv_ci ((zr_Vl X (As := [.int (a1), .int (a2), .int (a3), .int (s0)]) (rest := []) h (fun a h => wk_X0_burdensOfPiece l h) (zk_l1 ⟨_, rfl, cwV 4 X.hts (lw_V q1831 q1833 qs50 q102 q1834) rfl rfl rfl ⟨rfl, md_X0_burdensOfPiece⟩ ⟨Nat.le_of_ble_eq_true rfl, Nat.le_of_ble_eq_true rfl⟩⟩) rfl rfl (zk_rs (Nat.le_of_ble_eq_true rfl)) dX0_ifSplit_69 ⟨by first | exact Nat.le_of_ble_eq_true rfl | omega | (dsimp only; omega), by first | exact Nat.le_of_ble_eq_true rfl | omega | (dsimp only; omega)⟩)) (fun v69 P69 h => ?_)
    exact zv_iret X rfl (by first | exact Nat.le_of_ble_eq_true rfl | omega | (dsimp only; omega)) (by first | exact Nat.le_of_ble_eq_true rfl | omega | (dsimp only; omega)) dX0_ifSplit_72 h
theorem md_X0_ifSplit : yX0_ifSplit.cls ≠ "java/lang/invoke/MethodHandle" ∧ yX0_ifSplit.cls ≠ "java/lang/invoke/VarHandle" ∧ (parseMethodDescriptor yX0_ifSplit.desc).map (fun d => d.parameters.length) = some 4 := by decide +kernel
theorem wk_X0_ifSplit (l : Launch) {D : zk_G} {g : zk_M} {b0 : Nat} {post : Int32 → zk_H → Prop} {this : Nat} {x1 : Int32} {x2 : Int32} {x3 : Int32} {x4 : Int32} {P : zk_H} (hh : wp_X0_ifSplit post this x1 x2 x3 x4 P) : Met l yX0_ifSplit (ws_ yX0_ifSplit cX0_ifSplit 9 (some Jvm.ClassFile.FieldType.int)) ({ frames := 8, cells := 2, slots := 4, locals := 179 } : Room) (va_Pc [.ref this, .int (x1), .int (x2), .int (x3), .int (x4)] (zk_pre D g b0 P)) (va_Qi post (zk_B D b0) (zk_A b0)) 2 4 (zk_A b0) := by
  refine zk_enter "LandFolio" "ifSplit" rfl rfl (plainFor_of_name (by decide)) [.ref this, .int (x1), .int (x2), .int (x3), .int (x4)] (Nat.le_of_ble_eq_true rfl) ?_
  intro p e s m args below meth c X
  refine zk_at0 (L' := [(0, va_rf (some this)), (1, .int (x1)), (2, .int (x2)), (3, .int (x3)), (4, .int (x4))]) (rfl) ?_
  have h := hh
  unfold wp_X0_ifSplit at h
  refine zv_aload_n X 0 dX0_ifSplit_0 rfl ?_
  refine zv_iload_n X 1 dX0_ifSplit_1 rfl ?_
  refine zv_iload_n X 2 dX0_ifSplit_2 rfl ?_
  refine zv_iload_n X 3 dX0_ifSplit_3 rfl ?_
  refine zv_ciR ((zr_Vl X (As := [.int (x1), .int (x2), .int (x3)]) (rest := []) h (fun a h => wk_X0_isSplit l h) (zk_l1 ⟨_, rfl, cwV 3 X.hts (lw_V q1360 q1362 qs32 q102 q1363) rfl rfl rfl ⟨rfl, md_X0_isSplit⟩ ⟨Nat.le_of_ble_eq_true rfl, Nat.le_of_ble_eq_true rfl⟩⟩) rfl rfl (zk_rs (Nat.le_of_ble_eq_true rfl)) dX0_ifSplit_4 ⟨by first | exact Nat.le_of_ble_eq_true rfl | omega | (dsimp only; omega), by first | exact Nat.le_of_ble_eq_true rfl | omega | (dsimp only; omega)⟩)) (fun v4 h => ?_)
  refine zv_if_eq X (tgt := 20) dX0_ifSplit_7 (by decide) h (fun h => ?_) (fun h => ?_)
  · refine zv_iconst X (v := -1) dX0_ifSplit_20 rfl ?_
    exact zv_iret X rfl (by first | exact Nat.le_of_ble_eq_true rfl | omega | (dsimp only; omega)) (by first | exact Nat.le_of_ble_eq_true rfl | omega | (dsimp only; omega)) dX0_ifSplit_21 h
  · refine zv_iload X 4 dX0_ifSplit_10 rfl ?_
    refine zv_iconst X (v := 0) dX0_ifSplit_12 rfl ?_
    refine zv_iconst X (v := 3) dX0_ifSplit_13 rfl ?_
    refine zv_ciR ((zr_S X (As := [.int (x4), .int (0), .int (3)]) (rest := []) (wk_X0_isIn l h) (va_cwS 3 X.hts (lw_S q462 q463 q102 q464) rfl rfl rfl md_X0_isIn ⟨Nat.le_of_ble_eq_true rfl, Nat.le_of_ble_eq_true rfl⟩) rfl rfl (zk_rs (Nat.le_of_ble_eq_true rfl)) dX0_ifSplit_14 ⟨by first | exact Nat.le_of_ble_eq_true rfl | omega | (dsimp only; omega), by first | exact Nat.le_of_ble_eq_true rfl | omega | (dsimp only; omega)⟩)) (fun v14 h => ?_)
    refine zv_if_ne X (tgt := 22) dX0_ifSplit_17 (by decide) h (fun h => ?_) (fun h => ?_)
    · refine zv_aload_n X 0 dX0_ifSplit_22 rfl ?_
      refine zv_getf_r X fo_q402 dX0_ifSplit_23 h (fun v23 h => ?_)
      refine zv_iload_n X 1 dX0_ifSplit_26 rfl ?_
      refine zv_cqR ((zr_Vl X (As := [.int (x1)]) (rest := []) h (fun a h => wk_X1_parcel l h) (zk_l1 ⟨_, rfl, cwV 1 X.hts (lw_V q1371 q502 q503 q103 q504) rfl rfl rfl ⟨rfl, md_X1_parcel⟩ ⟨Nat.le_of_ble_eq_true rfl, Nat.le_of_ble_eq_true rfl⟩⟩) rfl rfl (zk_rs (Nat.le_of_ble_eq_true rfl)) dX0_ifSplit_27 ⟨by first | exact Nat.le_of_ble_eq_true rfl | omega | (dsimp only; omega), by first | exact Nat.le_of_ble_eq_true rfl | omega | (dsimp only; omega)⟩)) (fun v27 h => ?_)
      refine zv_astore X (L' := [(5, va_rf (v27)), (0, va_rf (some this)), (1, .int (x1)), (2, .int (x2)), (3, .int (x3)), (4, .int (x4))]) dX0_ifSplit_30 (by decide) rfl ?_
      refine zv_aload X 0 dX0_ifSplit_32 rfl ?_
      refine zv_ciR ((zr_Vl X (As := []) (rest := []) h (fun a h => wk_X2_isLive l h) (zk_l1 ⟨_, rfl, cwV 0 X.hts (lw_V q1570 q1177 q1178 q111 q1179) rfl rfl rfl ⟨rfl, md_X2_isLive⟩ ⟨Nat.le_of_ble_eq_true rfl, Nat.le_of_ble_eq_true rfl⟩⟩) rfl rfl (zk_rs (Nat.le_of_ble_eq_true rfl)) dX0_ifSplit_34 ⟨by first | exact Nat.le_of_ble_eq_true rfl | omega | (dsimp only; omega), by first | exact Nat.le_of_ble_eq_true rfl | omega | (dsimp only; omega)⟩)) (fun v34 h => ?_)
      refine zv_if_ne X (tgt := 43) dX0_ifSplit_37 (by decide) h (fun h => ?_) (fun h => ?_)
      · refine zv_iload X 5 dX0_ifSplit_43 rfl ?_
        refine zv_iconst X (v := 2) dX0_ifSplit_45 rfl ?_
        refine zv_irem X dX0_ifSplit_46 (by decide) ?_
        refine zv_if_ne X (tgt := 54) dX0_ifSplit_47 (by decide) h (fun h => ?_) (fun h => ?_)
        · refine zv_iconst X (v := 0) dX0_ifSplit_54 rfl ?_
          refine zv_sub (L' := [(0, va_rf (some this)), (1, .int (x1)), (2, .int (x2)), (3, .int (x3)), (4, .int (x4)), (5, va_rf (v27))]) [1, 2, 3, 4, 5, 0] rfl ?_
          refine zv_widen (c2 := 0) (s2 := 0) (by first | exact Nat.le_of_ble_eq_true rfl | omega | (dsimp only; omega)) (by first | exact Nat.le_of_ble_eq_true rfl | omega | (dsimp only; omega)) ?_
          exact kj_X0_ifSplit_55 X  h
        · refine zv_iconst X (v := 1) dX0_ifSplit_50 rfl ?_
          refine zv_goto X (tgt := 55) dX0_ifSplit_51 (by decide) ?_
          refine zv_sub (L' := [(0, va_rf (some this)), (1, .int (x1)), (2, .int (x2)), (3, .int (x3)), (4, .int (x4)), (5, va_rf (v27))]) [1, 2, 3, 4, 5, 0] rfl ?_
          refine zv_widen (c2 := 0) (s2 := 0) (by first | exact Nat.le_of_ble_eq_true rfl | omega | (dsimp only; omega)) (by first | exact Nat.le_of_ble_eq_true rfl | omega | (dsimp only; omega)) ?_
          exact kj_X0_ifSplit_55 X  h
      · refine zv_bipush X (v := -4) dX0_ifSplit_40 rfl ?_
        exact zv_iret X rfl (by first | exact Nat.le_of_ble_eq_true rfl | omega | (dsimp only; omega)) (by first | exact Nat.le_of_ble_eq_true rfl | omega | (dsimp only; omega)) dX0_ifSplit_42 h
    · refine zv_iconst X (v := -1) dX0_ifSplit_20 rfl ?_
      exact zv_iret X rfl (by first | exact Nat.le_of_ble_eq_true rfl | omega | (dsimp only; omega)) (by first | exact Nat.le_of_ble_eq_true rfl | omega | (dsimp only; omega)) dX0_ifSplit_21 h
theorem md_X0_isDebtOn : yX0_isDebtOn.cls ≠ "java/lang/invoke/MethodHandle" ∧ yX0_isDebtOn.cls ≠ "java/lang/invoke/VarHandle" ∧ (parseMethodDescriptor yX0_isDebtOn.desc).map (fun d => d.parameters.length) = some 2 := by decide +kernel
theorem wk_X0_isDebtOn (l : Launch) {D : zk_G} {g : zk_M} {b0 : Nat} {post : Int32 → Prop} {this : Nat} {x1 : Int32} {x2 : Int32} {P : zk_H} (hh : wp_X0_isDebtOn post this x1 x2 P) : Met l yX0_isDebtOn (ws_ yX0_isDebtOn cX0_isDebtOn 5 (some Jvm.ClassFile.FieldType.boolean)) ({ frames := 4, cells := 0, slots := 0, locals := 85 } : Room) (va_Pc [.ref this, .int (x1), .int (x2)] (zk_pre D g b0 P)) (va_Qi (fun r u => post r ∧ u = P) (zk_B D b0) (zk_A b0)) 0 0 (zk_A b0) := by
  refine zk_enter "LandFolio" "isDebtOn" rfl rfl (plainFor_of_name (by decide)) [.ref this, .int (x1), .int (x2)] (Nat.le_of_ble_eq_true rfl) ?_
  intro p e s m args below meth c X
  refine zk_at0 (L' := [(0, va_rf (some this)), (1, .int (x1)), (2, .int (x2))]) (rfl) ?_
  have h := hh
  unfold wp_X0_isDebtOn at h
  refine zv_aload_n X 0 dX0_isDebtOn_0 rfl ?_
  refine zv_getf_r X fo_q402 dX0_isDebtOn_1 h (fun v1 h => ?_)
  refine zv_iload_n X 1 dX0_isDebtOn_4 rfl ?_
  refine zv_cqR ((zr_Vl X (As := [.int (x1)]) (rest := []) h (fun a h => wk_X1_burden l h) (zk_l1 ⟨_, rfl, cwV 1 X.hts (lw_V q1496 q526 q527 q103 q528) rfl rfl rfl ⟨rfl, md_X1_burden⟩ ⟨Nat.le_of_ble_eq_true rfl, Nat.le_of_ble_eq_true rfl⟩⟩) rfl rfl (zk_rs (Nat.le_of_ble_eq_true rfl)) dX0_isDebtOn_5 ⟨by first | exact Nat.le_of_ble_eq_true rfl | omega | (dsimp only; omega), by first | exact Nat.le_of_ble_eq_true rfl | omega | (dsimp only; omega)⟩)) (fun v5 h => ?_)
  refine zv_astore X (L' := [(4, va_rf (v5)), (0, va_rf (some this)), (1, .int (x1)), (2, .int (x2))]) dX0_isDebtOn_8 (by decide) rfl ?_
  refine zv_aload X 0 dX0_isDebtOn_10 rfl ?_
  refine zv_inst X zk_cs7 (zk_l1 ⟨_, rfl, X.nc (i := 1) rfl⟩) q1470 dX0_isDebtOn_12 h (fun v12 h => ?_)
  refine zv_if_eq X (tgt := 36) dX0_isDebtOn_15 (by decide) h (fun h => ?_) (fun h => ?_)
  · refine zv_iconst X (v := 0) dX0_isDebtOn_36 rfl ?_
    exact zv_zret X (ty := .boolean) rfl (by first | exact Nat.le_of_ble_eq_true rfl | omega | (dsimp only; omega)) (by first | exact Nat.le_of_ble_eq_true rfl | omega | (dsimp only; omega)) dX0_isDebtOn_37 ⟨rfl, ⟨h, rfl⟩⟩
  · refine zv_aload X 0 dX0_isDebtOn_18 rfl ?_
    refine zv_cast X zk_cs7 q1470 dX0_isDebtOn_20 h (fun h => ?_)
    refine zv_astore_n X (i := 3) (L' := [(3, va_rf (v5)), (4, va_rf (v5)), (0, va_rf (some this)), (1, .int (x1)), (2, .int (x2))]) dX0_isDebtOn_23 rfl (by decide) rfl ?_
    refine zv_aload_n X 0 dX0_isDebtOn_24 rfl ?_
    refine zv_iload_n X 4 dX0_isDebtOn_25 rfl ?_
    refine zv_ciR ((zr_Ul X (As := [.int (x2)]) (rest := []) h (fun a h => wk_X7_isOn l h) (zk_l1 ⟨_, rfl, _, va_cwU 1 X.hts (zk_wsU q1847 q1555 q1556 q1207 q127 q1211) rfl rfl rfl rfl md_X7_isOn ⟨Nat.le_of_ble_eq_true rfl, Nat.le_of_ble_eq_true rfl⟩⟩) rfl rfl (zk_rs (Nat.le_of_ble_eq_true rfl)) dX0_isDebtOn_26 ⟨by first | exact Nat.le_of_ble_eq_true rfl | omega | (dsimp only; omega), by first | exact Nat.le_of_ble_eq_true rfl | omega | (dsimp only; omega)⟩)) (fun v26 h => ?_)
    refine zv_if_eq X (tgt := 36) dX0_isDebtOn_29 (by decide) h (fun h => ?_) (fun h => ?_)
    · refine zv_iconst X (v := 0) dX0_isDebtOn_36 rfl ?_
      exact zv_zret X (ty := .boolean) rfl (by first | exact Nat.le_of_ble_eq_true rfl | omega | (dsimp only; omega)) (by first | exact Nat.le_of_ble_eq_true rfl | omega | (dsimp only; omega)) dX0_isDebtOn_37 ⟨rfl, ⟨h, rfl⟩⟩
    · refine zv_iconst X (v := 1) dX0_isDebtOn_32 rfl ?_
      refine zv_goto X (tgt := 37) dX0_isDebtOn_33 (by decide) ?_
      exact zv_zret X (ty := .boolean) rfl (by first | exact Nat.le_of_ble_eq_true rfl | omega | (dsimp only; omega)) (by first | exact Nat.le_of_ble_eq_true rfl | omega | (dsimp only; omega)) dX0_isDebtOn_37 ⟨rfl, ⟨h, rfl⟩⟩
theorem md_X0_ifFreed : yX0_ifFreed.cls ≠ "java/lang/invoke/MethodHandle" ∧ yX0_ifFreed.cls ≠ "java/lang/invoke/VarHandle" ∧ (parseMethodDescriptor yX0_ifFreed.desc).map (fun d => d.parameters.length) = some 2 := by decide +kernel
theorem wk_X0_ifFreed (l : Launch) {D : zk_G} {g : zk_M} {b0 : Nat} {post : Int32 → Prop} {this : Nat} {x1 : Int32} {x2 : Int32} {P : zk_H} (hh : wp_X0_ifFreed post this x1 x2 P) : Met l yX0_ifFreed (ws_ yX0_ifFreed cX0_ifFreed 3 (some Jvm.ClassFile.FieldType.int)) ({ frames := 6, cells := 0, slots := 0, locals := 135 } : Room) (va_Pc [.ref this, .int (x1), .int (x2)] (zk_pre D g b0 P)) (va_Qi (fun r u => post r ∧ u = P) (zk_B D b0) (zk_A b0)) 0 0 (zk_A b0) := by
  refine zk_enter "LandFolio" "ifFreed" rfl rfl (plainFor_of_name (by decide)) [.ref this, .int (x1), .int (x2)] (Nat.le_of_ble_eq_true rfl) ?_
  intro p e s m args below meth c X
  refine zk_at0 (L' := [(0, va_rf (some this)), (1, .int (x1)), (2, .int (x2))]) (rfl) ?_
  have h := hh
  unfold wp_X0_ifFreed at h
  refine zv_aload_n X 0 dX0_ifFreed_0 rfl ?_
  refine zv_iload_n X 1 dX0_ifFreed_1 rfl ?_
  refine zv_ciR ((zr_Vl X (As := [.int (x1)]) (rest := []) h (fun a h => wk_X0_isBurden l h) (zk_l1 ⟨_, rfl, cwV 1 X.hts (lw_V q1492 q1494 qs35 q102 q1495) rfl rfl rfl ⟨rfl, md_X0_isBurden⟩ ⟨Nat.le_of_ble_eq_true rfl, Nat.le_of_ble_eq_true rfl⟩⟩) rfl rfl (zk_rs (Nat.le_of_ble_eq_true rfl)) dX0_ifFreed_2 ⟨by first | exact Nat.le_of_ble_eq_true rfl | omega | (dsimp only; omega), by first | exact Nat.le_of_ble_eq_true rfl | omega | (dsimp only; omega)⟩)) (fun v2 h => ?_)
  refine zv_if_eq X (tgt := 16) dX0_ifFreed_5 (by decide) h (fun h => ?_) (fun h => ?_)
  · refine zv_iconst X (v := -1) dX0_ifFreed_16 rfl ?_
    exact zv_iret X rfl (by first | exact Nat.le_of_ble_eq_true rfl | omega | (dsimp only; omega)) (by first | exact Nat.le_of_ble_eq_true rfl | omega | (dsimp only; omega)) dX0_ifFreed_17 ⟨h, rfl⟩
  · refine zv_aload_n X 0 dX0_ifFreed_8 rfl ?_
    refine zv_iload_n X 2 dX0_ifFreed_9 rfl ?_
    refine zv_ciR ((zr_Vl X (As := [.int (x2)]) (rest := []) h (fun a h => wk_X0_isParcel l h) (zk_l1 ⟨_, rfl, cwV 1 X.hts (lw_V q1364 q1366 qs33 q102 q1367) rfl rfl rfl ⟨rfl, md_X0_isParcel⟩ ⟨Nat.le_of_ble_eq_true rfl, Nat.le_of_ble_eq_true rfl⟩⟩) rfl rfl (zk_rs (Nat.le_of_ble_eq_true rfl)) dX0_ifFreed_10 ⟨by first | exact Nat.le_of_ble_eq_true rfl | omega | (dsimp only; omega), by first | exact Nat.le_of_ble_eq_true rfl | omega | (dsimp only; omega)⟩)) (fun v10 h => ?_)
    refine zv_if_ne X (tgt := 18) dX0_ifFreed_13 (by decide) h (fun h => ?_) (fun h => ?_)
    · refine zv_aload_n X 0 dX0_ifFreed_18 rfl ?_
      refine zv_iload_n X 1 dX0_ifFreed_19 rfl ?_
      refine zv_iload_n X 2 dX0_ifFreed_20 rfl ?_
      refine zv_ciR ((zr_Vl X (As := [.int (x1), .int (x2)]) (rest := []) h (fun a h => wk_X0_isDebtOn l h) (zk_l1 ⟨_, rfl, cwV 2 X.hts (lw_V q1843 q1845 qs51 q102 q1846) rfl rfl rfl ⟨rfl, md_X0_isDebtOn⟩ ⟨Nat.le_of_ble_eq_true rfl, Nat.le_of_ble_eq_true rfl⟩⟩) rfl rfl (zk_rs (Nat.le_of_ble_eq_true rfl)) dX0_ifFreed_21 ⟨by first | exact Nat.le_of_ble_eq_true rfl | omega | (dsimp only; omega), by first | exact Nat.le_of_ble_eq_true rfl | omega | (dsimp only; omega)⟩)) (fun v21 h => ?_)
      refine zv_if_eq X (tgt := 46) dX0_ifFreed_24 (by decide) h (fun h => ?_) (fun h => ?_)
      · refine zv_bipush X (v := -2) dX0_ifFreed_46 rfl ?_
        exact zv_iret X rfl (by first | exact Nat.le_of_ble_eq_true rfl | omega | (dsimp only; omega)) (by first | exact Nat.le_of_ble_eq_true rfl | omega | (dsimp only; omega)) dX0_ifFreed_48 ⟨h, rfl⟩
      · refine zv_aload_n X 0 dX0_ifFreed_27 rfl ?_
        refine zv_getf_r X fo_q402 dX0_ifFreed_28 h (fun v28 h => ?_)
        refine zv_aload_n X 0 dX0_ifFreed_31 rfl ?_
        refine zv_getf_r X fo_q402 dX0_ifFreed_32 h (fun v32 h => ?_)
        refine zv_iload_n X 1 dX0_ifFreed_35 rfl ?_
        refine zv_cqR ((zr_Vl X (As := [.int (x1)]) (rest := [va_rf (v28)]) h (fun a h => wk_X1_burden l h) (zk_l1 ⟨_, rfl, cwV 1 X.hts (lw_V q1496 q526 q527 q103 q528) rfl rfl rfl ⟨rfl, md_X1_burden⟩ ⟨Nat.le_of_ble_eq_true rfl, Nat.le_of_ble_eq_true rfl⟩⟩) rfl rfl (zk_rs (Nat.le_of_ble_eq_true rfl)) dX0_ifFreed_36 ⟨by first | exact Nat.le_of_ble_eq_true rfl | omega | (dsimp only; omega), by first | exact Nat.le_of_ble_eq_true rfl | omega | (dsimp only; omega)⟩)) (fun v36 h => ?_)
        refine zv_iload_n X 2 dX0_ifFreed_39 rfl ?_
        refine zv_ciR ((zr_Vl X (As := [va_rf (v36), .int (x2)]) (rest := []) h (fun a h => wk_X1_cover l h) (zk_l1 ⟨_, rfl, cwV 2 X.hts (lw_V q1526 q1527 q1528 q103 q1529) rfl rfl rfl ⟨rfl, md_X1_cover⟩ ⟨Nat.le_of_ble_eq_true rfl, Nat.le_of_ble_eq_true rfl⟩⟩) rfl rfl (zk_rs (Nat.le_of_ble_eq_true rfl)) dX0_ifFreed_40 ⟨by first | exact Nat.le_of_ble_eq_true rfl | omega | (dsimp only; omega), by first | exact Nat.le_of_ble_eq_true rfl | omega | (dsimp only; omega)⟩)) (fun v40 h => ?_)
        refine zv_goto X (tgt := 48) dX0_ifFreed_43 (by decide) ?_
        exact zv_iret X rfl (by first | exact Nat.le_of_ble_eq_true rfl | omega | (dsimp only; omega)) (by first | exact Nat.le_of_ble_eq_true rfl | omega | (dsimp only; omega)) dX0_ifFreed_48 ⟨h, rfl⟩
    · refine zv_iconst X (v := -1) dX0_ifFreed_16 rfl ?_
      exact zv_iret X rfl (by first | exact Nat.le_of_ble_eq_true rfl | omega | (dsimp only; omega)) (by first | exact Nat.le_of_ble_eq_true rfl | omega | (dsimp only; omega)) dX0_ifFreed_17 ⟨h, rfl⟩
theorem kj_X0_ifSold_117 {p : Program} {l : Launch} {e : Env} {s : State} {m : MethodId} {args : Array Value} {below : List Frame} {meth : Method} {c : Code} {D : zk_G} {g : zk_M} {b0 : Nat} (X : zk_X p s m args meth c D g b0 cX0_ifSold 9 "LandFolio" "ifSold" (some Jvm.ClassFile.FieldType.int)) {post : Int32 → zk_H → Prop} {K49 : Int32 → zk_H → Prop} {a3 : Int32} {a4 : Int32} {a5 : Option Nat} {P : zk_H}  (hK49 : ∀ (u4 : Int32) (U : zk_H), K49 u4 U → zV p l e ({ frames := 7, cells := 2, slots := 4, locals := 151 } : Room) s m args below meth c D b0 9 (2) (4) (MQ below (va_Qi post (zk_B D b0) (zk_A b0)) args s 2 4 (zk_A b0)) U 49 [(3, .int (a3)), (4, .int (u4)), (5, va_rf (a5))] [])  (hh : wj_X0_ifSold_117 post K49 a3 a4 a5 P) : zV p l e ({ frames := 7, cells := 2, slots := 4, locals := 151 } : Room) s m args below meth c D b0 9 (2) (4) (MQ below (va_Qi post (zk_B D b0) (zk_A b0)) args s 2 4 (zk_A b0)) P 117 [(3, .int (a3)), (4, .int (a4)), (5, va_rf (a5))] [] := by
  have h := hh
  unfold wj_X0_ifSold_117 at h
  refine zv_goto X (tgt := 49) dX0_ifSold_117 (by decide) ?_
  refine zv_widen (c2 := 2) (s2 := 4) (by first | exact Nat.le_refl _ | omega) (by first | exact Nat.le_refl _ | omega) ?_
  exact hK49 _ _ h
theorem kb_X0_ifSold_49 {p : Program} {l : Launch} {e : Env} {s : State} {m : MethodId} {args : Array Value} {below : List Frame} {meth : Method} {c : Code} {D : zk_G} {g : zk_M} {b0 : Nat} (X : zk_X p s m args meth c D g b0 cX0_ifSold 9 "LandFolio" "ifSold" (some Jvm.ClassFile.FieldType.int)) {post : Int32 → zk_H → Prop}  {K49 : Int32 → zk_H → Prop} {a3 : Int32} {a4 : Int32} {a5 : Option Nat} {P : zk_H}   (hK49 : ∀ (u4 : Int32) (U : zk_H), K49 u4 U → zV p l e ({ frames := 7, cells := 2, slots := 4, locals := 151 } : Room) s m args below meth c D b0 9 (2) (4) (MQ below (va_Qi post (zk_B D b0) (zk_A b0)) args s 2 4 (zk_A b0)) U 49 [(3, .int (a3)), (4, .int (u4)), (5, va_rf (a5))] [])  (hh : wb_X0_ifSold_49 post a3 a5 K49 a4 P) : zV p l e ({ frames := 7, cells := 2, slots := 4, locals := 151 } : Room) s m args below meth c D b0 9 (2) (4) (MQ below (va_Qi post (zk_B D b0) (zk_A b0)) args s 2 4 (zk_A b0)) P 49 [(3, .int (a3)), (4, .int (a4)), (5, va_rf (a5))] [] := by
  have h := hh
  unfold wb_X0_ifSold_49 at h
  refine zv_aload X 2 dX0_ifSold_49 rfl ?_
  refine zv_ciR5 ((zr_Fl X (As := []) (rest := []) h (fun a h => wk_X13_hasNext l h) (zk_l1 ⟨_, rfl, va_cwF 0 X.hts (zk_wsF q1666 q1670 q1672 q137 q1674) rfl rfl rfl (X.fw (i := 1) rfl) ⟨by decide, by decide, md_X13_hasNext.2.2⟩ ⟨Nat.le_of_ble_eq_true rfl, Nat.le_of_ble_eq_true rfl⟩⟩) rfl rfl (zk_rs (Nat.le_of_ble_eq_true rfl)) dX0_ifSold_51 ⟨by first | exact Nat.le_of_ble_eq_true rfl | omega | (dsimp only; omega), by first | exact Nat.le_of_ble_eq_true rfl | omega | (dsimp only; omega)⟩)) (fun v51 h => ?_)
  refine zv_if_eq X (tgt := 120) dX0_ifSold_56 (by decide) h (fun h => ?_) (fun h => ?_)
  · refine zv_bipush X (v := -2) dX0_ifSold_120 rfl ?_
    exact zv_iret X rfl (by first | exact Nat.le_of_ble_eq_true rfl | omega | (dsimp only; omega)) (by first | exact Nat.le_of_ble_eq_true rfl | omega | (dsimp only; omega)) dX0_ifSold_122 h
  · refine zv_aload X 2 dX0_ifSold_59 rfl ?_
    refine zv_cq5 ((zr_Fl X (As := []) (rest := []) h (fun a h => wk_X13_next l h) (zk_l1 ⟨_, rfl, va_cwF 0 X.hts (zk_wsF q1676 q1679 q1681 q137 q1683) rfl rfl rfl (X.fw (i := 2) rfl) ⟨by decide, by decide, md_X13_next.2.2⟩ ⟨Nat.le_of_ble_eq_true rfl, Nat.le_of_ble_eq_true rfl⟩⟩) rfl rfl (zk_rs (Nat.le_of_ble_eq_true rfl)) dX0_ifSold_61 ⟨by first | exact Nat.le_of_ble_eq_true rfl | omega | (dsimp only; omega), by first | exact Nat.le_of_ble_eq_true rfl | omega | (dsimp only; omega)⟩)) (fun v61 P61 h => ?_)
    refine zv_cast X zk_cs1 q1711 dX0_ifSold_66 h (fun h => ?_)
    refine zv_astore X (L' := [(6, va_rf (v61)), (3, .int (a3)), (4, .int (a4)), (5, va_rf (a5))]) dX0_ifSold_69 (by decide) (by simp [zk_s1, zk_s2, zk_rc, zk_ic, zk_jc]) ?_
    refine zv_aload X 0 dX0_ifSold_71 rfl ?_
    refine zv_inst X zk_cs7 (zk_l1 ⟨_, rfl, X.nc (i := 1) rfl⟩) q1470 dX0_ifSold_73 h (fun v73 h => ?_)
    refine zv_if_eq X (tgt := 117) dX0_ifSold_76 (by decide) h (fun h => ?_) (fun h => ?_)
    · refine zv_sub (L' := [(3, .int (a3)), (4, .int (a4)), (5, va_rf (a5))]) [1, 2, 3] rfl ?_
      refine zv_widen (c2 := 2) (s2 := 4) (by first | exact Nat.le_of_ble_eq_true rfl | omega | (dsimp only; omega)) (by first | exact Nat.le_of_ble_eq_true rfl | omega | (dsimp only; omega)) ?_
      exact kj_X0_ifSold_117 X hK49 h
    · refine zv_aload X 0 dX0_ifSold_79 rfl ?_
      refine zv_cast X zk_cs7 q1470 dX0_ifSold_81 h (fun h => ?_)
      refine zv_astore X (L' := [(7, va_rf (v61)), (6, va_rf (v61)), (3, .int (a3)), (4, .int (a4)), (5, va_rf (a5))]) dX0_ifSold_84 (by decide) (by simp [zk_s1, zk_s2, zk_rc, zk_ic, zk_jc]) ?_
      refine zv_iload X 3 dX0_ifSold_86 rfl ?_
      refine zv_aload X 0 dX0_ifSold_88 rfl ?_
      refine zv_getf_i X fo_q591 dX0_ifSold_90 h (fun v90 h => ?_)
      refine zv_mmin X q1455 ⟨by first | decide | (dsimp only; decide), by first | decide | (dsimp only; decide)⟩ (zk_rs (Nat.le_of_ble_eq_true rfl)) (by first | exact Nat.le_of_ble_eq_true rfl | dsimp only; omega) (by first | exact Nat.le_of_ble_eq_true rfl | dsimp only; omega) dX0_ifSold_93 ?_
      refine zv_top_i h (fun v96 h => ?_)
      refine zv_istore X (L' := [(8, .int (v96)), (7, va_rf (v61)), (6, va_rf (v61)), (3, .int (a3)), (4, .int (a4)), (5, va_rf (a5))]) dX0_ifSold_96 (by decide) (by simp [zk_s1, zk_s2, zk_rc, zk_ic, zk_jc]) ?_
      refine zv_aload X 1 dX0_ifSold_98 rfl ?_
      refine zv_ciR ((zr_Ul X (As := []) (rest := []) h (fun a h => wk_X7_number l h) (zk_l1 ⟨_, rfl, _, va_cwU 0 X.hts (zk_wsU q1853 q545 q547 q548 q127 q549) rfl rfl rfl rfl md_X7_number ⟨Nat.le_of_ble_eq_true rfl, Nat.le_of_ble_eq_true rfl⟩⟩) rfl rfl (zk_rs (Nat.le_of_ble_eq_true rfl)) dX0_ifSold_100 ⟨by first | exact Nat.le_of_ble_eq_true rfl | omega | (dsimp only; omega), by first | exact Nat.le_of_ble_eq_true rfl | omega | (dsimp only; omega)⟩)) (fun v100 h => ?_)
      refine zv_iload_n X 3 dX0_ifSold_103 rfl ?_
      refine zv_icmp_ne X (tgt := 110) dX0_ifSold_104 (by decide) h (fun h => ?_) (fun h => ?_)
      · refine zv_iload X 4 dX0_ifSold_110 rfl ?_
        refine zv_iload X 0 dX0_ifSold_112 rfl ?_
        refine zv_isub X dX0_ifSold_114 ?_
        refine zv_top_i h (fun v115 h => ?_)
        refine zv_istore X (L' := [(4, .int (v115)), (8, .int (v96)), (7, va_rf (v61)), (6, va_rf (v61)), (3, .int (a3)), (5, va_rf (a5))]) dX0_ifSold_115 (by decide) rfl ?_
        refine zv_sub (L' := [(3, .int (a3)), (4, .int (v115)), (5, va_rf (a5))]) [4, 0, 5] rfl ?_
        refine zv_widen (c2 := 2) (s2 := 4) (by first | exact Nat.le_of_ble_eq_true rfl | omega | (dsimp only; omega)) (by first | exact Nat.le_of_ble_eq_true rfl | omega | (dsimp only; omega)) ?_
        exact kj_X0_ifSold_117 X hK49 h
      · refine zv_iload X 0 dX0_ifSold_107 rfl ?_
        exact zv_iret X rfl (by first | exact Nat.le_of_ble_eq_true rfl | omega | (dsimp only; omega)) (by first | exact Nat.le_of_ble_eq_true rfl | omega | (dsimp only; omega)) dX0_ifSold_109 h
theorem kl_X0_ifSold_49 {p : Program} {l : Launch} {e : Env} {s : State} {m : MethodId} {args : Array Value} {below : List Frame} {meth : Method} {c : Code} {D : zk_G} {g : zk_M} {b0 : Nat} (X : zk_X p s m args meth c D g b0 cX0_ifSold 9 "LandFolio" "ifSold" (some Jvm.ClassFile.FieldType.int)) {post : Int32 → zk_H → Prop}  {a3 : Int32} {a5 : Option Nat}   : ∀ (n : Nat) (a4 : Int32) (P : zk_H), wl_X0_ifSold_49 post a3 a5 n a4 P → zV p l e ({ frames := 7, cells := 2, slots := 4, locals := 151 } : Room) s m args below meth c D b0 9 (2) (4) (MQ below (va_Qi post (zk_B D b0) (zk_A b0)) args s 2 4 (zk_A b0)) P 49 [(3, .int (a3)), (4, .int (a4)), (5, va_rf (a5))] [] := by
  intro n
  induction n with
  | zero => intro _ _ h; exact h.elim
  | succ n ih =>
    intro a4 P h
    exact kb_X0_ifSold_49 X  (fun u0 u1 h => ih _ _ h)  h
theorem md_X0_ifSold : yX0_ifSold.cls ≠ "java/lang/invoke/MethodHandle" ∧ yX0_ifSold.cls ≠ "java/lang/invoke/VarHandle" ∧ (parseMethodDescriptor yX0_ifSold.desc).map (fun d => d.parameters.length) = some 3 := by decide +kernel
theorem wk_X0_ifSold (l : Launch) {D : zk_G} {g : zk_M} {b0 : Nat} {post : Int32 → zk_H → Prop} {this : Nat} {x1 : Int32} {x2 : Int32} {x3 : Int32} {P : zk_H} (hh : wp_X0_ifSold post this x1 x2 x3 P) : Met l yX0_ifSold (ws_ yX0_ifSold cX0_ifSold 9 (some Jvm.ClassFile.FieldType.int)) ({ frames := 7, cells := 2, slots := 4, locals := 151 } : Room) (va_Pc [.ref this, .int (x1), .int (x2), .int (x3)] (zk_pre D g b0 P)) (va_Qi post (zk_B D b0) (zk_A b0)) 2 4 (zk_A b0) := by
  refine zk_enter "LandFolio" "ifSold" rfl rfl (plainFor_of_name (by decide)) [.ref this, .int (x1), .int (x2), .int (x3)] (Nat.le_of_ble_eq_true rfl) ?_
  intro p e s m args below meth c X
  refine zk_at0 (L' := [(0, va_rf (some this)), (1, .int (x1)), (2, .int (x2)), (3, .int (x3))]) (rfl) ?_
  have h := hh
  unfold wp_X0_ifSold at h
  refine zv_aload_n X 0 dX0_ifSold_0 rfl ?_
  refine zv_iload_n X 1 dX0_ifSold_1 rfl ?_
  refine zv_ciR ((zr_Vl X (As := [.int (x1)]) (rest := []) h (fun a h => wk_X0_isParcel l h) (zk_l1 ⟨_, rfl, cwV 1 X.hts (lw_V q1364 q1366 qs33 q102 q1367) rfl rfl rfl ⟨rfl, md_X0_isParcel⟩ ⟨Nat.le_of_ble_eq_true rfl, Nat.le_of_ble_eq_true rfl⟩⟩) rfl rfl (zk_rs (Nat.le_of_ble_eq_true rfl)) dX0_ifSold_2 ⟨by first | exact Nat.le_of_ble_eq_true rfl | omega | (dsimp only; omega), by first | exact Nat.le_of_ble_eq_true rfl | omega | (dsimp only; omega)⟩)) (fun v2 h => ?_)
  refine zv_if_eq X (tgt := 27) dX0_ifSold_5 (by decide) h (fun h => ?_) (fun h => ?_)
  · refine zv_iconst X (v := -1) dX0_ifSold_27 rfl ?_
    exact zv_iret X rfl (by first | exact Nat.le_of_ble_eq_true rfl | omega | (dsimp only; omega)) (by first | exact Nat.le_of_ble_eq_true rfl | omega | (dsimp only; omega)) dX0_ifSold_28 h
  · refine zv_iload_n X 2 dX0_ifSold_8 rfl ?_
    refine zv_iconst X (v := 0) dX0_ifSold_9 rfl ?_
    refine zv_ldcw X q1852 dX0_ifSold_10 ?_
    refine zv_ciR ((zr_S X (As := [.int (x2), .int (0), .int (99999)]) (rest := []) (wk_X0_isIn l h) (va_cwS 3 X.hts (lw_S q462 q463 q102 q464) rfl rfl rfl md_X0_isIn ⟨Nat.le_of_ble_eq_true rfl, Nat.le_of_ble_eq_true rfl⟩) rfl rfl (zk_rs (Nat.le_of_ble_eq_true rfl)) dX0_ifSold_13 ⟨by first | exact Nat.le_of_ble_eq_true rfl | omega | (dsimp only; omega), by first | exact Nat.le_of_ble_eq_true rfl | omega | (dsimp only; omega)⟩)) (fun v13 h => ?_)
    refine zv_if_eq X (tgt := 27) dX0_ifSold_16 (by decide) h (fun h => ?_) (fun h => ?_)
    · refine zv_iconst X (v := -1) dX0_ifSold_27 rfl ?_
      exact zv_iret X rfl (by first | exact Nat.le_of_ble_eq_true rfl | omega | (dsimp only; omega)) (by first | exact Nat.le_of_ble_eq_true rfl | omega | (dsimp only; omega)) dX0_ifSold_28 h
    · refine zv_aload_n X 0 dX0_ifSold_19 rfl ?_
      refine zv_iload_n X 3 dX0_ifSold_20 rfl ?_
      refine zv_ciR ((zr_Vl X (As := [.int (x3)]) (rest := []) h (fun a h => wk_X0_isBurden l h) (zk_l1 ⟨_, rfl, cwV 1 X.hts (lw_V q1492 q1494 qs35 q102 q1495) rfl rfl rfl ⟨rfl, md_X0_isBurden⟩ ⟨Nat.le_of_ble_eq_true rfl, Nat.le_of_ble_eq_true rfl⟩⟩) rfl rfl (zk_rs (Nat.le_of_ble_eq_true rfl)) dX0_ifSold_21 ⟨by first | exact Nat.le_of_ble_eq_true rfl | omega | (dsimp only; omega), by first | exact Nat.le_of_ble_eq_true rfl | omega | (dsimp only; omega)⟩)) (fun v21 h => ?_)
      refine zv_if_ne X (tgt := 29) dX0_ifSold_24 (by decide) h (fun h => ?_) (fun h => ?_)
      · refine zv_iload_n X 2 dX0_ifSold_29 rfl ?_
        refine zv_istore X (L' := [(4, .int (x2)), (0, va_rf (some this)), (1, .int (x1)), (2, .int (x2)), (3, .int (x3))]) dX0_ifSold_30 (by decide) rfl ?_
        refine zv_new X zk_nc10 q1628 (by first | exact Nat.le_of_ble_eq_true rfl | omega | (dsimp only; omega)) (by first | exact Nat.le_of_ble_eq_true rfl | omega | (dsimp only; omega)) dX0_ifSold_32 h (fun v32 P32 h => ?_)
        refine zv_dup X dX0_ifSold_35 (zk_rc _) ?_
        refine zv_aload_n X 1 dX0_ifSold_36 rfl ?_
        refine zv_getf_r X fo_q402 dX0_ifSold_37 h (fun v37 h => ?_)
        refine zv_iload_n X 2 dX0_ifSold_40 rfl ?_
        refine zv_cv ((zr_I X (As := [va_rf (v37), .int (x1)]) (rest := [va_rf (some v32)]) (wk_X12_init l h) (cwI 2 X.hts (lw_meth q1632) rfl rfl rfl (X.w q136) (X.w q1630) (X.w q1631) rfl md_X12_init ⟨Nat.le_of_ble_eq_true rfl, Nat.le_of_ble_eq_true rfl⟩) rfl rfl (zk_rs (Nat.le_of_ble_eq_true rfl)) dX0_ifSold_41 ⟨by first | exact Nat.le_of_ble_eq_true rfl | omega | (dsimp only; omega), by first | exact Nat.le_of_ble_eq_true rfl | omega | (dsimp only; omega)⟩)) (fun P41 h => ?_)
        refine zv_cq ((zr_Vl X (As := []) (rest := []) h (fun a h => wk_X12_iterator l h) (zk_l1 ⟨_, rfl, cwV 0 X.hts (lw_V q1641 q1642 q1643 q136 q1644) rfl rfl rfl ⟨rfl, md_X12_iterator⟩ ⟨Nat.le_of_ble_eq_true rfl, Nat.le_of_ble_eq_true rfl⟩⟩) rfl rfl (zk_rs (Nat.le_of_ble_eq_true rfl)) dX0_ifSold_44 ⟨by first | exact Nat.le_of_ble_eq_true rfl | omega | (dsimp only; omega), by first | exact Nat.le_of_ble_eq_true rfl | omega | (dsimp only; omega)⟩)) (fun v44 P44 h => ?_)
        refine zv_astore X (L' := [(5, va_rf (v44)), (4, .int (x2)), (0, va_rf (some this)), (1, .int (x1)), (2, .int (x2)), (3, .int (x3))]) dX0_ifSold_47 (by decide) rfl ?_
        refine zv_sub (L' := [(3, .int (x3)), (4, .int (x2)), (5, va_rf (v44))]) [5, 1, 0] rfl ?_
        obtain ⟨n47, h⟩ := h
        refine zv_widen (c2 := 2) (s2 := 4) (by first | exact Nat.le_refl _ | omega) (by first | exact Nat.le_refl _ | omega) ?_
        exact kl_X0_ifSold_49 X  n47 _ _ h
      · refine zv_iconst X (v := -1) dX0_ifSold_27 rfl ?_
        exact zv_iret X rfl (by first | exact Nat.le_of_ble_eq_true rfl | omega | (dsimp only; omega)) (by first | exact Nat.le_of_ble_eq_true rfl | omega | (dsimp only; omega)) dX0_ifSold_28 h
theorem kj_X0_leastPrice_52 {p : Program} {l : Launch} {e : Env} {s : State} {m : MethodId} {args : Array Value} {below : List Frame} {meth : Method} {c : Code} {D : zk_G} {g : zk_M} {b0 : Nat} (X : zk_X p s m args meth c D g b0 cX0_leastPrice 4 "LandFolio" "leastPrice" (some Jvm.ClassFile.FieldType.int)) {post : Int32 → zk_H → Prop}  {a0 : Option Nat} {a1 : Int32} {a2 : Int32} {s0 : Int32} {P : zk_H}    (hh : wj_X0_leastPrice_52 post a0 a1 a2 s0 P) : zV p l e ({ frames := 7, cells := 0, slots := 0, locals := 159 } : Room) s m args below meth c D b0 4 (0) (0) (MQ below (va_Qi post (zk_B D b0) (zk_A b0)) args s 0 0 (zk_A b0)) P 52 [(0, va_rf (a0)), (1, .int (a1)), (2, .int (a2))] [.int (s0)] := by
  have h := hh
  unfold wj_X0_leastPrice_52 at h
  refine zv_istore_n X (i := 3) (L' := [(3, .int (s0)), (0, va_rf (a0)), (1, .int (a1)), (2, .int (a2))]) dX0_leastPrice_52 rfl (by decide) rfl ?_
  refine zv_aload_n X 1 dX0_leastPrice_53 rfl ?_
  refine zv_getf_r X fo_q402 dX0_leastPrice_54 h (fun v54 h => ?_)
  refine zv_iload_n X 2 dX0_leastPrice_57 rfl ?_
  refine zv_put_i X fp_q188 (fun z => by cases z) dX0_leastPrice_58 h (fun P58 h => ?_)
  refine zv_iload_n X 0 dX0_leastPrice_61 rfl ?_
  refine zv_if_eq X (tgt := 69) dX0_leastPrice_62 (by decide) h (fun h => ?_) (fun h => ?_)
  · refine zv_bipush X (v := -2) dX0_leastPrice_69 rfl ?_
    exact zv_iret X rfl (by first | exact Nat.le_of_ble_eq_true rfl | omega | (dsimp only; omega)) (by first | exact Nat.le_of_ble_eq_true rfl | omega | (dsimp only; omega)) dX0_leastPrice_71 h
  · refine zv_iload_n X 3 dX0_leastPrice_65 rfl ?_
    refine zv_goto X (tgt := 71) dX0_leastPrice_66 (by decide) ?_
    exact zv_iret X rfl (by first | exact Nat.le_of_ble_eq_true rfl | omega | (dsimp only; omega)) (by first | exact Nat.le_of_ble_eq_true rfl | omega | (dsimp only; omega)) dX0_leastPrice_71 h
theorem kj_X0_leastPrice_37 {p : Program} {l : Launch} {e : Env} {s : State} {m : MethodId} {args : Array Value} {below : List Frame} {meth : Method} {c : Code} {D : zk_G} {g : zk_M} {b0 : Nat} (X : zk_X p s m args meth c D g b0 cX0_leastPrice 4 "LandFolio" "leastPrice" (some Jvm.ClassFile.FieldType.int)) {post : Int32 → zk_H → Prop}  {a0 : Option Nat} {a1 : Int32} {a2 : Int32} {P : zk_H}    (hh : wj_X0_leastPrice_37 post a0 a1 a2 P) : zV p l e ({ frames := 7, cells := 0, slots := 0, locals := 159 } : Room) s m args below meth c D b0 4 (0) (0) (MQ below (va_Qi post (zk_B D b0) (zk_A b0)) args s 0 0 (zk_A b0)) P 37 [(0, va_rf (a0)), (1, .int (a1)), (2, .int (a2))] [] := by
  have h := hh
  unfold wj_X0_leastPrice_37 at h
  refine zv_aload_n X 0 dX0_leastPrice_37 rfl ?_
  refine zv_getf_r X fo_q402 dX0_leastPrice_38 h (fun v38 h => ?_)
  refine zv_ciR ((zr_Vl X (As := []) (rest := []) h (fun a h => wk_X1_unsf l h) (zk_l1 ⟨_, rfl, cwV 0 X.hts (lw_V q1600 q1601 q1602 q103 q1603) rfl rfl rfl ⟨by decide +kernel, md_X1_unsf⟩ ⟨Nat.le_of_ble_eq_true rfl, Nat.le_of_ble_eq_true rfl⟩⟩) rfl rfl (zk_rs (Nat.le_of_ble_eq_true rfl)) dX0_leastPrice_41 ⟨by first | exact Nat.le_of_ble_eq_true rfl | omega | (dsimp only; omega), by first | exact Nat.le_of_ble_eq_true rfl | omega | (dsimp only; omega)⟩)) (fun v41 h => ?_)
  refine zv_if_ne X (tgt := 51) dX0_leastPrice_44 (by decide) h (fun h => ?_) (fun h => ?_)
  · refine zv_iconst X (v := 0) dX0_leastPrice_51 rfl ?_
    exact kj_X0_leastPrice_52 X  h
  · refine zv_iconst X (v := 1) dX0_leastPrice_47 rfl ?_
    refine zv_goto X (tgt := 52) dX0_leastPrice_48 (by decide) ?_
    exact kj_X0_leastPrice_52 X  h
theorem kb_X0_leastPrice_10 {p : Program} {l : Launch} {e : Env} {s : State} {m : MethodId} {args : Array Value} {below : List Frame} {meth : Method} {c : Code} {D : zk_G} {g : zk_M} {b0 : Nat} (X : zk_X p s m args meth c D g b0 cX0_leastPrice 4 "LandFolio" "leastPrice" (some Jvm.ClassFile.FieldType.int)) {post : Int32 → zk_H → Prop}  {K10 : Int32 → zk_H → Prop} {a0 : Option Nat} {a1 : Int32} {a2 : Int32} {P : zk_H}   (hK10 : ∀ (u2 : Int32) (U : zk_H), K10 u2 U → zV p l e ({ frames := 7, cells := 0, slots := 0, locals := 159 } : Room) s m args below meth c D b0 4 (0) (0) (MQ below (va_Qi post (zk_B D b0) (zk_A b0)) args s 0 0 (zk_A b0)) U 10 [(0, va_rf (a0)), (1, .int (a1)), (2, .int (u2))] [])  (hh : wb_X0_leastPrice_10 post a0 a1 K10 a2 P) : zV p l e ({ frames := 7, cells := 0, slots := 0, locals := 159 } : Room) s m args below meth c D b0 4 (0) (0) (MQ below (va_Qi post (zk_B D b0) (zk_A b0)) args s 0 0 (zk_A b0)) P 10 [(0, va_rf (a0)), (1, .int (a1)), (2, .int (a2))] [] := by
  have h := hh
  unfold wb_X0_leastPrice_10 at h
  obtain ⟨v10, e10, h⟩ := zt_e h
  refine zv_iinc X (v := v10) (L' := [(2, .int (v10)), (0, va_rf (a0)), (1, .int (a1))]) 2 dX0_leastPrice_10 rfl e10 (by decide) rfl ?_
  refine zv_aload_n X 1 dX0_leastPrice_13 rfl ?_
  refine zv_getf_r X fo_q402 dX0_leastPrice_14 h (fun v14 h => ?_)
  refine zv_iload_n X 0 dX0_leastPrice_17 rfl ?_
  refine zv_put_i X fp_q188 (fun z => by cases z) dX0_leastPrice_18 h (fun P18 h => ?_)
  refine zv_iload_n X 0 dX0_leastPrice_21 rfl ?_
  refine zv_bipush X (v := 99) dX0_leastPrice_22 rfl ?_
  refine zv_icmp_ge X (tgt := 37) dX0_leastPrice_24 (by decide) h (fun h => ?_) (fun h => ?_)
  · refine zv_sub (L' := [(0, va_rf (a0)), (1, .int (a1)), (2, .int (v10))]) [1, 2, 0] rfl ?_
    exact kj_X0_leastPrice_37 X  h
  · refine zv_aload_n X 1 dX0_leastPrice_27 rfl ?_
    refine zv_getf_r X fo_q402 dX0_leastPrice_28 h (fun v28 h => ?_)
    refine zv_ciR ((zr_Vl X (As := []) (rest := []) h (fun a h => wk_X1_unsf l h) (zk_l1 ⟨_, rfl, cwV 0 X.hts (lw_V q1600 q1601 q1602 q103 q1603) rfl rfl rfl ⟨by decide +kernel, md_X1_unsf⟩ ⟨Nat.le_of_ble_eq_true rfl, Nat.le_of_ble_eq_true rfl⟩⟩) rfl rfl (zk_rs (Nat.le_of_ble_eq_true rfl)) dX0_leastPrice_31 ⟨by first | exact Nat.le_of_ble_eq_true rfl | omega | (dsimp only; omega), by first | exact Nat.le_of_ble_eq_true rfl | omega | (dsimp only; omega)⟩)) (fun v31 h => ?_)
    refine zv_if_gt X (tgt := 10) dX0_leastPrice_34 (by decide) h (fun h => ?_) (fun h => ?_)
    · refine zv_sub (L' := [(0, va_rf (a0)), (1, .int (a1)), (2, .int (v10))]) [1, 2, 0] rfl ?_
      exact hK10 _ _ h
    · refine zv_sub (L' := [(0, va_rf (a0)), (1, .int (a1)), (2, .int (v10))]) [1, 2, 0] rfl ?_
      exact kj_X0_leastPrice_37 X  h
theorem kl_X0_leastPrice_10 {p : Program} {l : Launch} {e : Env} {s : State} {m : MethodId} {args : Array Value} {below : List Frame} {meth : Method} {c : Code} {D : zk_G} {g : zk_M} {b0 : Nat} (X : zk_X p s m args meth c D g b0 cX0_leastPrice 4 "LandFolio" "leastPrice" (some Jvm.ClassFile.FieldType.int)) {post : Int32 → zk_H → Prop}  {a0 : Option Nat} {a1 : Int32}   : ∀ (n : Nat) (a2 : Int32) (P : zk_H), wl_X0_leastPrice_10 post a0 a1 n a2 P → zV p l e ({ frames := 7, cells := 0, slots := 0, locals := 159 } : Room) s m args below meth c D b0 4 (0) (0) (MQ below (va_Qi post (zk_B D b0) (zk_A b0)) args s 0 0 (zk_A b0)) P 10 [(0, va_rf (a0)), (1, .int (a1)), (2, .int (a2))] [] := by
  intro n
  induction n with
  | zero => intro _ _ h; exact h.elim
  | succ n ih =>
    intro a2 P h
    exact kb_X0_leastPrice_10 X  (fun u0 u1 h => ih _ _ h)  h
theorem md_X0_leastPrice : yX0_leastPrice.cls ≠ "java/lang/invoke/MethodHandle" ∧ yX0_leastPrice.cls ≠ "java/lang/invoke/VarHandle" ∧ (parseMethodDescriptor yX0_leastPrice.desc).map (fun d => d.parameters.length) = some 0 := by decide +kernel
theorem wk_X0_leastPrice (l : Launch) {D : zk_G} {g : zk_M} {b0 : Nat} {post : Int32 → zk_H → Prop} {this : Nat} {P : zk_H} (hh : wp_X0_leastPrice post this P) : Met l yX0_leastPrice (ws_ yX0_leastPrice cX0_leastPrice 4 (some Jvm.ClassFile.FieldType.int)) ({ frames := 7, cells := 0, slots := 0, locals := 159 } : Room) (va_Pc [.ref this] (zk_pre D g b0 P)) (va_Qi post (zk_B D b0) (zk_A b0)) 0 0 (zk_A b0) := by
  refine zk_enter "LandFolio" "leastPrice" rfl rfl (plainFor_of_name (by decide)) [.ref this] (Nat.le_of_ble_eq_true rfl) ?_
  intro p e s m args below meth c X
  refine zk_at0 (L' := [(0, va_rf (some this))]) (rfl) ?_
  have h := hh
  unfold wp_X0_leastPrice at h
  refine zv_aload_n X 0 dX0_leastPrice_0 rfl ?_
  refine zv_getf_r X fo_q402 dX0_leastPrice_1 h (fun v1 h => ?_)
  refine zv_getf_i X fo_q188 dX0_leastPrice_4 h (fun v4 h => ?_)
  refine zv_istore_n X (i := 1) (L' := [(1, .int (v4)), (0, va_rf (some this))]) dX0_leastPrice_7 rfl (by decide) rfl ?_
  refine zv_iconst X (v := 0) dX0_leastPrice_8 rfl ?_
  refine zv_istore_n X (i := 2) (L' := [(2, .int (0)), (1, .int (v4)), (0, va_rf (some this))]) dX0_leastPrice_9 rfl (by decide) rfl ?_
  refine zv_sub (L' := [(0, va_rf (some this)), (1, .int (v4)), (2, .int (0))]) [2, 1, 0] rfl ?_
  obtain ⟨n9, h⟩ := h
  exact kl_X0_leastPrice_10 X  n9 _ _ h
theorem kj_X0_evenest_152 {p : Program} {l : Launch} {e : Env} {s : State} {m : MethodId} {args : Array Value} {below : List Frame} {meth : Method} {c : Code} {D : zk_G} {g : zk_M} {b0 : Nat} (X : zk_X p s m args meth c D g b0 cX0_evenest 8 "LandFolio" "evenest" (some Jvm.ClassFile.FieldType.int)) {post : Int32 → Prop} {K38 : Int32 → Int32 → Int32 → Prop} {a2 : Option Nat} {a3 : Int32} {a4 : Int32} {a5 : Int32} {P : zk_H}  (hK38 : ∀ (u3 : Int32) (u4 : Int32) (u5 : Int32), K38 u3 u4 u5 → zV p l e ({ frames := 4, cells := 0, slots := 0, locals := 85 } : Room) s m args below meth c D b0 8 (0) (0) (MQ below (va_Qi (fun r u => post r ∧ u = P) (zk_B D b0) (zk_A b0)) args s 0 0 (zk_A b0)) P 38 [(2, va_rf (a2)), (3, .int (u3)), (4, .int (u4)), (5, .int (u5))] [])  (hh : wj_X0_evenest_152 post K38 a2 a3 a4 a5 P) : zV p l e ({ frames := 4, cells := 0, slots := 0, locals := 85 } : Room) s m args below meth c D b0 8 (0) (0) (MQ below (va_Qi (fun r u => post r ∧ u = P) (zk_B D b0) (zk_A b0)) args s 0 0 (zk_A b0)) P 152 [(2, va_rf (a2)), (3, .int (a3)), (4, .int (a4)), (5, .int (a5))] [] := by
  have h := hh
  unfold wj_X0_evenest_152 at h
  obtain ⟨v152, e152, h⟩ := zt_e h
  refine zv_iinc X (v := v152) (L' := [(5, .int (v152)), (2, va_rf (a2)), (3, .int (a3)), (4, .int (a4))]) 3 dX0_evenest_152 rfl e152 (by decide) rfl ?_
  refine zv_goto X (tgt := 38) dX0_evenest_155 (by decide) ?_
  refine zv_sub (L' := [(2, va_rf (a2)), (3, .int (a3)), (4, .int (a4)), (5, .int (v152))]) [1, 2, 3, 0] rfl ?_
  exact hK38 _ _ _ h
theorem kj_X0_evenest_150 {p : Program} {l : Launch} {e : Env} {s : State} {m : MethodId} {args : Array Value} {below : List Frame} {meth : Method} {c : Code} {D : zk_G} {g : zk_M} {b0 : Nat} (X : zk_X p s m args meth c D g b0 cX0_evenest 8 "LandFolio" "evenest" (some Jvm.ClassFile.FieldType.int)) {post : Int32 → Prop} {K38 : Int32 → Int32 → Int32 → Prop} {a2 : Option Nat} {a3 : Int32} {a5 : Int32} {s0 : Int32} {P : zk_H}  (hK38 : ∀ (u3 : Int32) (u4 : Int32) (u5 : Int32), K38 u3 u4 u5 → zV p l e ({ frames := 4, cells := 0, slots := 0, locals := 85 } : Room) s m args below meth c D b0 8 (0) (0) (MQ below (va_Qi (fun r u => post r ∧ u = P) (zk_B D b0) (zk_A b0)) args s 0 0 (zk_A b0)) P 38 [(2, va_rf (a2)), (3, .int (u3)), (4, .int (u4)), (5, .int (u5))] [])  (hh : wj_X0_evenest_150 post K38 a2 a3 a5 s0 P) : zV p l e ({ frames := 4, cells := 0, slots := 0, locals := 85 } : Room) s m args below meth c D b0 8 (0) (0) (MQ below (va_Qi (fun r u => post r ∧ u = P) (zk_B D b0) (zk_A b0)) args s 0 0 (zk_A b0)) P 150 [(2, va_rf (a2)), (3, .int (a3)), (5, .int (a5))] [.int (s0)] := by
  have h := hh
  unfold wj_X0_evenest_150 at h
  refine zv_istore X (L' := [(4, .int (s0)), (2, va_rf (a2)), (3, .int (a3)), (5, .int (a5))]) dX0_evenest_150 (by decide) rfl ?_
  refine zv_sub (L' := [(2, va_rf (a2)), (3, .int (a3)), (4, .int (s0)), (5, .int (a5))]) [1, 2, 0, 3] rfl ?_
  exact kj_X0_evenest_152 X hK38 h
theorem kj_X0_evenest_136 {p : Program} {l : Launch} {e : Env} {s : State} {m : MethodId} {args : Array Value} {below : List Frame} {meth : Method} {c : Code} {D : zk_G} {g : zk_M} {b0 : Nat} (X : zk_X p s m args meth c D g b0 cX0_evenest 8 "LandFolio" "evenest" (some Jvm.ClassFile.FieldType.int)) {post : Int32 → Prop} {K38 : Int32 → Int32 → Int32 → Prop} {a2 : Option Nat} {a4 : Int32} {a5 : Int32} {a7 : Int32} {s0 : Int32} {P : zk_H}  (hK38 : ∀ (u3 : Int32) (u4 : Int32) (u5 : Int32), K38 u3 u4 u5 → zV p l e ({ frames := 4, cells := 0, slots := 0, locals := 85 } : Room) s m args below meth c D b0 8 (0) (0) (MQ below (va_Qi (fun r u => post r ∧ u = P) (zk_B D b0) (zk_A b0)) args s 0 0 (zk_A b0)) P 38 [(2, va_rf (a2)), (3, .int (u3)), (4, .int (u4)), (5, .int (u5))] [])  (hh : wj_X0_evenest_136 post K38 a2 a4 a5 a7 s0 P) : zV p l e ({ frames := 4, cells := 0, slots := 0, locals := 85 } : Room) s m args below meth c D b0 8 (0) (0) (MQ below (va_Qi (fun r u => post r ∧ u = P) (zk_B D b0) (zk_A b0)) args s 0 0 (zk_A b0)) P 136 [(2, va_rf (a2)), (4, .int (a4)), (5, .int (a5)), (7, .int (a7))] [.int (s0)] := by
  have h := hh
  unfold wj_X0_evenest_136 at h
  refine zv_istore_n X (i := 3) (L' := [(3, .int (s0)), (2, va_rf (a2)), (4, .int (a4)), (5, .int (a5)), (7, .int (a7))]) dX0_evenest_136 rfl (by decide) (by simp [zk_s1, zk_s2, zk_rc, zk_ic, zk_jc]) ?_
  refine zv_iload_n X 0 dX0_evenest_137 rfl ?_
  refine zv_iload X 3 dX0_evenest_138 rfl ?_
  refine zv_icmp_ne X (tgt := 148) dX0_evenest_140 (by decide) h (fun h => ?_) (fun h => ?_)
  · refine zv_iload X 2 dX0_evenest_148 rfl ?_
    refine zv_sub (L' := [(2, va_rf (a2)), (3, .int (s0)), (5, .int (a5))]) [1, 0, 3] rfl ?_
    exact kj_X0_evenest_150 X hK38 h
  · refine zv_iload X 4 dX0_evenest_143 rfl ?_
    refine zv_goto X (tgt := 150) dX0_evenest_145 (by decide) ?_
    refine zv_sub (L' := [(2, va_rf (a2)), (3, .int (s0)), (5, .int (a5))]) [1, 0, 3] rfl ?_
    exact kj_X0_evenest_150 X hK38 h
theorem kj_X0_evenest_130 {p : Program} {l : Launch} {e : Env} {s : State} {m : MethodId} {args : Array Value} {below : List Frame} {meth : Method} {c : Code} {D : zk_G} {g : zk_M} {b0 : Nat} (X : zk_X p s m args meth c D g b0 cX0_evenest 8 "LandFolio" "evenest" (some Jvm.ClassFile.FieldType.int)) {post : Int32 → Prop} {K38 : Int32 → Int32 → Int32 → Prop} {a2 : Option Nat} {a4 : Int32} {a5 : Int32} {a7 : Int32} {P : zk_H}  (hK38 : ∀ (u3 : Int32) (u4 : Int32) (u5 : Int32), K38 u3 u4 u5 → zV p l e ({ frames := 4, cells := 0, slots := 0, locals := 85 } : Room) s m args below meth c D b0 8 (0) (0) (MQ below (va_Qi (fun r u => post r ∧ u = P) (zk_B D b0) (zk_A b0)) args s 0 0 (zk_A b0)) P 38 [(2, va_rf (a2)), (3, .int (u3)), (4, .int (u4)), (5, .int (u5))] [])  (hh : wj_X0_evenest_130 post K38 a2 a4 a5 a7 P) : zV p l e ({ frames := 4, cells := 0, slots := 0, locals := 85 } : Room) s m args below meth c D b0 8 (0) (0) (MQ below (va_Qi (fun r u => post r ∧ u = P) (zk_B D b0) (zk_A b0)) args s 0 0 (zk_A b0)) P 130 [(2, va_rf (a2)), (4, .int (a4)), (5, .int (a5)), (7, .int (a7))] [] := by
  have h := hh
  unfold wj_X0_evenest_130 at h
  refine zv_iload X 2 dX0_evenest_130 rfl ?_
  refine zv_goto X (tgt := 136) dX0_evenest_132 (by decide) ?_
  exact kj_X0_evenest_136 X hK38 h
theorem kj_X0_evenest_117 {p : Program} {l : Launch} {e : Env} {s : State} {m : MethodId} {args : Array Value} {below : List Frame} {meth : Method} {c : Code} {D : zk_G} {g : zk_M} {b0 : Nat} (X : zk_X p s m args meth c D g b0 cX0_evenest 8 "LandFolio" "evenest" (some Jvm.ClassFile.FieldType.int)) {post : Int32 → Prop} {K38 : Int32 → Int32 → Int32 → Prop} {a2 : Option Nat} {a3 : Int32} {a4 : Int32} {a5 : Int32} {s0 : Int32} {P : zk_H}  (hK38 : ∀ (u3 : Int32) (u4 : Int32) (u5 : Int32), K38 u3 u4 u5 → zV p l e ({ frames := 4, cells := 0, slots := 0, locals := 85 } : Room) s m args below meth c D b0 8 (0) (0) (MQ below (va_Qi (fun r u => post r ∧ u = P) (zk_B D b0) (zk_A b0)) args s 0 0 (zk_A b0)) P 38 [(2, va_rf (a2)), (3, .int (u3)), (4, .int (u4)), (5, .int (u5))] [])  (hh : wj_X0_evenest_117 post K38 a2 a3 a4 a5 s0 P) : zV p l e ({ frames := 4, cells := 0, slots := 0, locals := 85 } : Room) s m args below meth c D b0 8 (0) (0) (MQ below (va_Qi (fun r u => post r ∧ u = P) (zk_B D b0) (zk_A b0)) args s 0 0 (zk_A b0)) P 117 [(2, va_rf (a2)), (3, .int (a3)), (4, .int (a4)), (5, .int (a5))] [.int (s0)] := by
  have h := hh
  unfold wj_X0_evenest_117 at h
  refine zv_istore X (L' := [(7, .int (s0)), (2, va_rf (a2)), (3, .int (a3)), (4, .int (a4)), (5, .int (a5))]) dX0_evenest_117 (by decide) rfl ?_
  refine zv_iload_n X 2 dX0_evenest_119 rfl ?_
  refine zv_if_lt X (tgt := 130) dX0_evenest_120 (by decide) h (fun h => ?_) (fun h => ?_)
  · refine zv_sub (L' := [(2, va_rf (a2)), (4, .int (a4)), (5, .int (a5)), (7, .int (s0))]) [1, 3, 4, 0] rfl ?_
    exact kj_X0_evenest_130 X hK38 h
  · refine zv_iload X 0 dX0_evenest_123 rfl ?_
    refine zv_iload X 3 dX0_evenest_125 rfl ?_
    refine zv_icmp_ge X (tgt := 135) dX0_evenest_127 (by decide) h (fun h => ?_) (fun h => ?_)
    · refine zv_iload_n X 2 dX0_evenest_135 rfl ?_
      refine zv_sub (L' := [(2, va_rf (a2)), (4, .int (a4)), (5, .int (a5)), (7, .int (s0))]) [1, 3, 4, 0] rfl ?_
      exact kj_X0_evenest_136 X hK38 h
    · refine zv_sub (L' := [(2, va_rf (a2)), (4, .int (a4)), (5, .int (a5)), (7, .int (s0))]) [1, 3, 4, 0] rfl ?_
      exact kj_X0_evenest_130 X hK38 h
theorem kb_X0_evenest_38 {p : Program} {l : Launch} {e : Env} {s : State} {m : MethodId} {args : Array Value} {below : List Frame} {meth : Method} {c : Code} {D : zk_G} {g : zk_M} {b0 : Nat} (X : zk_X p s m args meth c D g b0 cX0_evenest 8 "LandFolio" "evenest" (some Jvm.ClassFile.FieldType.int)) {post : Int32 → Prop}  {K38 : Int32 → Int32 → Int32 → Prop} {a2 : Option Nat} {a3 : Int32} {a4 : Int32} {a5 : Int32} {P : zk_H}   (hK38 : ∀ (u3 : Int32) (u4 : Int32) (u5 : Int32), K38 u3 u4 u5 → zV p l e ({ frames := 4, cells := 0, slots := 0, locals := 85 } : Room) s m args below meth c D b0 8 (0) (0) (MQ below (va_Qi (fun r u => post r ∧ u = P) (zk_B D b0) (zk_A b0)) args s 0 0 (zk_A b0)) P 38 [(2, va_rf (a2)), (3, .int (u3)), (4, .int (u4)), (5, .int (u5))] [])  (hh : wb_X0_evenest_38 post a2 P K38 a3 a4 a5) : zV p l e ({ frames := 4, cells := 0, slots := 0, locals := 85 } : Room) s m args below meth c D b0 8 (0) (0) (MQ below (va_Qi (fun r u => post r ∧ u = P) (zk_B D b0) (zk_A b0)) args s 0 0 (zk_A b0)) P 38 [(2, va_rf (a2)), (3, .int (a3)), (4, .int (a4)), (5, .int (a5))] [] := by
  have h := hh
  unfold wb_X0_evenest_38 at h
  refine zv_iload X 3 dX0_evenest_38 rfl ?_
  refine zv_bipush X (v := 100) dX0_evenest_40 rfl ?_
  refine zv_aload_n X 0 dX0_evenest_42 rfl ?_
  refine zv_getf_i X fo_q318 dX0_evenest_43 h (fun v43 h => ?_)
  refine zv_iadd X dX0_evenest_46 ?_
  refine zv_icmp_ge X (tgt := 158) dX0_evenest_47 (by decide) h (fun h => ?_) (fun h => ?_)
  · refine zv_iload_n X 1 dX0_evenest_158 rfl ?_
    exact zv_iret X rfl (by first | exact Nat.le_of_ble_eq_true rfl | omega | (dsimp only; omega)) (by first | exact Nat.le_of_ble_eq_true rfl | omega | (dsimp only; omega)) dX0_evenest_159 ⟨h, rfl⟩
  · refine zv_iload X 3 dX0_evenest_50 rfl ?_
    refine zv_bipush X (v := 100) dX0_evenest_52 rfl ?_
    refine zv_idiv X dX0_evenest_54 (by decide) ?_
    refine zv_top_i h (fun v55 h => ?_)
    refine zv_istore X (L' := [(6, .int (v55)), (2, va_rf (a2)), (3, .int (a3)), (4, .int (a4)), (5, .int (a5))]) dX0_evenest_55 (by decide) rfl ?_
    refine zv_aload_n X 1 dX0_evenest_57 rfl ?_
    refine zv_iload X 0 dX0_evenest_58 rfl ?_
    refine zv_iload X 4 dX0_evenest_60 rfl ?_
    refine zv_bipush X (v := 100) dX0_evenest_62 rfl ?_
    refine zv_irem X dX0_evenest_64 (by decide) ?_
    refine zv_ciR ((zr_S X (As := [va_rf (a2), .int (v55), .int (a5 - a5 / 100 * 100)]) (rest := []) (wk_X0_parts l h) (va_cwS 3 X.hts (lw_S q1372 q1183 q102 q1184) rfl rfl rfl md_X0_parts ⟨Nat.le_of_ble_eq_true rfl, Nat.le_of_ble_eq_true rfl⟩) rfl rfl (zk_rs (Nat.le_of_ble_eq_true rfl)) dX0_evenest_65 ⟨by first | exact Nat.le_of_ble_eq_true rfl | omega | (dsimp only; omega), by first | exact Nat.le_of_ble_eq_true rfl | omega | (dsimp only; omega)⟩)) (fun v65 h => ?_)
    refine zv_if_eq X (tgt := 152) dX0_evenest_68 (by decide) h (fun h => ?_) (fun h => ?_)
    · refine zv_sub (L' := [(2, va_rf (a2)), (3, .int (a3)), (4, .int (a4)), (5, .int (a5))]) [1, 2, 3, 4] rfl ?_
      exact kj_X0_evenest_152 X hK38 h
    · refine zv_iload X 0 dX0_evenest_71 rfl ?_
      refine zv_iconst X (v := 1) dX0_evenest_73 rfl ?_
      refine zv_icmp_ne X (tgt := 100) dX0_evenest_74 (by decide) h (fun h => ?_) (fun h => ?_)
      · refine zv_iconst X (v := 2) dX0_evenest_100 rfl ?_
        refine zv_iload X 4 dX0_evenest_101 rfl ?_
        refine zv_imul X dX0_evenest_103 ?_
        refine zv_aload_n X 1 dX0_evenest_104 rfl ?_
        refine zv_getf_i X fo_q314 dX0_evenest_105 h (fun v105 h => ?_)
        refine zv_isub X dX0_evenest_108 ?_
        refine zv_mabs X q1862 ⟨by first | decide | (dsimp only; decide), by first | decide | (dsimp only; decide)⟩ (zk_rs (Nat.le_of_ble_eq_true rfl)) (by first | exact Nat.le_of_ble_eq_true rfl | dsimp only; omega) (by first | exact Nat.le_of_ble_eq_true rfl | dsimp only; omega) dX0_evenest_109 ?_
        refine zv_aload_n X 1 dX0_evenest_112 rfl ?_
        refine zv_getf_i X fo_q318 dX0_evenest_113 h (fun v113 h => ?_)
        refine zv_imul X dX0_evenest_116 ?_
        refine zv_sub (L' := [(2, va_rf (a2)), (3, .int (a3)), (4, .int (a4)), (5, .int (a5))]) [1, 2, 3, 4] rfl ?_
        exact kj_X0_evenest_117 X hK38 h
      · refine zv_iconst X (v := 2) dX0_evenest_77 rfl ?_
        refine zv_iload X 4 dX0_evenest_78 rfl ?_
        refine zv_bipush X (v := 100) dX0_evenest_80 rfl ?_
        refine zv_irem X dX0_evenest_82 (by decide) ?_
        refine zv_imul X dX0_evenest_83 ?_
        refine zv_aload_n X 1 dX0_evenest_84 rfl ?_
        refine zv_getf_i X fo_q318 dX0_evenest_85 h (fun v85 h => ?_)
        refine zv_isub X dX0_evenest_88 ?_
        refine zv_mabs X q1862 ⟨by first | decide | (dsimp only; decide), by first | decide | (dsimp only; decide)⟩ (zk_rs (Nat.le_of_ble_eq_true rfl)) (by first | exact Nat.le_of_ble_eq_true rfl | dsimp only; omega) (by first | exact Nat.le_of_ble_eq_true rfl | dsimp only; omega) dX0_evenest_89 ?_
        refine zv_aload_n X 1 dX0_evenest_92 rfl ?_
        refine zv_getf_i X fo_q314 dX0_evenest_93 h (fun v93 h => ?_)
        refine zv_imul X dX0_evenest_96 ?_
        refine zv_goto X (tgt := 117) dX0_evenest_97 (by decide) ?_
        refine zv_sub (L' := [(2, va_rf (a2)), (3, .int (a3)), (4, .int (a4)), (5, .int (a5))]) [1, 2, 3, 4] rfl ?_
        exact kj_X0_evenest_117 X hK38 h
theorem kl_X0_evenest_38 {p : Program} {l : Launch} {e : Env} {s : State} {m : MethodId} {args : Array Value} {below : List Frame} {meth : Method} {c : Code} {D : zk_G} {g : zk_M} {b0 : Nat} (X : zk_X p s m args meth c D g b0 cX0_evenest 8 "LandFolio" "evenest" (some Jvm.ClassFile.FieldType.int)) {post : Int32 → Prop}  {a2 : Option Nat} {P : zk_H}   : ∀ (n : Nat) (a3 : Int32) (a4 : Int32) (a5 : Int32), wl_X0_evenest_38 post a2 P n a3 a4 a5 → zV p l e ({ frames := 4, cells := 0, slots := 0, locals := 85 } : Room) s m args below meth c D b0 8 (0) (0) (MQ below (va_Qi (fun r u => post r ∧ u = P) (zk_B D b0) (zk_A b0)) args s 0 0 (zk_A b0)) P 38 [(2, va_rf (a2)), (3, .int (a3)), (4, .int (a4)), (5, .int (a5))] [] := by
  intro n
  induction n with
  | zero => intro _ _ _ h; exact h.elim
  | succ n ih =>
    intro a3 a4 a5 h
    exact kb_X0_evenest_38 X  (fun u0 u1 u2 h => ih _ _ _ h)  h
theorem md_X0_evenest : yX0_evenest.cls ≠ "java/lang/invoke/MethodHandle" ∧ yX0_evenest.cls ≠ "java/lang/invoke/VarHandle" ∧ (parseMethodDescriptor yX0_evenest.desc).map (fun d => d.parameters.length) = some 1 := by decide +kernel
theorem wk_X0_evenest (l : Launch) {D : zk_G} {g : zk_M} {b0 : Nat} {post : Int32 → Prop} {this : Nat} {x1 : Int32} {P : zk_H} (hh : wp_X0_evenest post this x1 P) : Met l yX0_evenest (ws_ yX0_evenest cX0_evenest 8 (some Jvm.ClassFile.FieldType.int)) ({ frames := 4, cells := 0, slots := 0, locals := 85 } : Room) (va_Pc [.ref this, .int (x1)] (zk_pre D g b0 P)) (va_Qi (fun r u => post r ∧ u = P) (zk_B D b0) (zk_A b0)) 0 0 (zk_A b0) := by
  refine zk_enter "LandFolio" "evenest" rfl rfl (plainFor_of_name (by decide)) [.ref this, .int (x1)] (Nat.le_of_ble_eq_true rfl) ?_
  intro p e s m args below meth c X
  refine zk_at0 (L' := [(0, va_rf (some this)), (1, .int (x1))]) (rfl) ?_
  have h := hh
  unfold wp_X0_evenest at h
  refine zv_aload_n X 0 dX0_evenest_0 rfl ?_
  refine zv_iload_n X 1 dX0_evenest_1 rfl ?_
  refine zv_ciR ((zr_Vl X (As := [.int (x1)]) (rest := []) h (fun a h => wk_X0_isParcel l h) (zk_l1 ⟨_, rfl, cwV 1 X.hts (lw_V q1364 q1366 qs33 q102 q1367) rfl rfl rfl ⟨rfl, md_X0_isParcel⟩ ⟨Nat.le_of_ble_eq_true rfl, Nat.le_of_ble_eq_true rfl⟩⟩) rfl rfl (zk_rs (Nat.le_of_ble_eq_true rfl)) dX0_evenest_2 ⟨by first | exact Nat.le_of_ble_eq_true rfl | omega | (dsimp only; omega), by first | exact Nat.le_of_ble_eq_true rfl | omega | (dsimp only; omega)⟩)) (fun v2 h => ?_)
  refine zv_if_ne X (tgt := 10) dX0_evenest_5 (by decide) h (fun h => ?_) (fun h => ?_)
  · refine zv_aload_n X 0 dX0_evenest_10 rfl ?_
    refine zv_getf_r X fo_q402 dX0_evenest_11 h (fun v11 h => ?_)
    refine zv_iload_n X 1 dX0_evenest_14 rfl ?_
    refine zv_cqR ((zr_Vl X (As := [.int (x1)]) (rest := []) h (fun a h => wk_X1_parcel l h) (zk_l1 ⟨_, rfl, cwV 1 X.hts (lw_V q1371 q502 q503 q103 q504) rfl rfl rfl ⟨rfl, md_X1_parcel⟩ ⟨Nat.le_of_ble_eq_true rfl, Nat.le_of_ble_eq_true rfl⟩⟩) rfl rfl (zk_rs (Nat.le_of_ble_eq_true rfl)) dX0_evenest_15 ⟨by first | exact Nat.le_of_ble_eq_true rfl | omega | (dsimp only; omega), by first | exact Nat.le_of_ble_eq_true rfl | omega | (dsimp only; omega)⟩)) (fun v15 h => ?_)
    refine zv_astore_n X (i := 2) (L' := [(2, va_rf (v15)), (0, va_rf (some this)), (1, .int (x1))]) dX0_evenest_18 rfl (by decide) rfl ?_
    refine zv_aload_n X 0 dX0_evenest_19 rfl ?_
    refine zv_ciR ((zr_Vl X (As := []) (rest := []) h (fun a h => wk_X2_isLive l h) (zk_l1 ⟨_, rfl, cwV 0 X.hts (lw_V q1570 q1177 q1178 q111 q1179) rfl rfl rfl ⟨rfl, md_X2_isLive⟩ ⟨Nat.le_of_ble_eq_true rfl, Nat.le_of_ble_eq_true rfl⟩⟩) rfl rfl (zk_rs (Nat.le_of_ble_eq_true rfl)) dX0_evenest_20 ⟨by first | exact Nat.le_of_ble_eq_true rfl | omega | (dsimp only; omega), by first | exact Nat.le_of_ble_eq_true rfl | omega | (dsimp only; omega)⟩)) (fun v20 h => ?_)
    refine zv_if_ne X (tgt := 29) dX0_evenest_23 (by decide) h (fun h => ?_) (fun h => ?_)
    · refine zv_bipush X (v := -2) dX0_evenest_29 rfl ?_
      refine zv_istore_n X (i := 3) (L' := [(3, .int (-2)), (2, va_rf (v15)), (0, va_rf (some this)), (1, .int (x1))]) dX0_evenest_31 rfl (by decide) (by simp [zk_s1, zk_s2, zk_rc, zk_ic, zk_jc]) ?_
      refine zv_iconst X (v := 0) dX0_evenest_32 rfl ?_
      refine zv_istore X (L' := [(4, .int (0)), (3, .int (-2)), (2, va_rf (v15)), (0, va_rf (some this)), (1, .int (x1))]) dX0_evenest_33 (by decide) rfl ?_
      refine zv_iconst X (v := 1) dX0_evenest_35 rfl ?_
      refine zv_istore X (L' := [(5, .int (1)), (4, .int (0)), (3, .int (-2)), (2, va_rf (v15)), (0, va_rf (some this)), (1, .int (x1))]) dX0_evenest_36 (by decide) rfl ?_
      refine zv_sub (L' := [(2, va_rf (v15)), (3, .int (-2)), (4, .int (0)), (5, .int (1))]) [3, 2, 1, 0] rfl ?_
      obtain ⟨n36, h⟩ := h
      exact kl_X0_evenest_38 X  n36 _ _ _ h
    · refine zv_bipush X (v := -4) dX0_evenest_26 rfl ?_
      exact zv_iret X rfl (by first | exact Nat.le_of_ble_eq_true rfl | omega | (dsimp only; omega)) (by first | exact Nat.le_of_ble_eq_true rfl | omega | (dsimp only; omega)) dX0_evenest_28 ⟨h, rfl⟩
  · refine zv_iconst X (v := -1) dX0_evenest_8 rfl ?_
    exact zv_iret X rfl (by first | exact Nat.le_of_ble_eq_true rfl | omega | (dsimp only; omega)) (by first | exact Nat.le_of_ble_eq_true rfl | omega | (dsimp only; omega)) dX0_evenest_9 ⟨h, rfl⟩
theorem md_X10_part : yX10_part.cls ≠ "java/lang/invoke/MethodHandle" ∧ yX10_part.cls ≠ "java/lang/invoke/VarHandle" ∧ (parseMethodDescriptor yX10_part.desc).map (fun d => d.parameters.length) = some 1 := by decide +kernel
theorem wk_X10_part (l : Launch) {D : zk_G} {g : zk_M} {b0 : Nat} {post : Int32 → Prop} {this : Nat} {x1 : Int32} {P : zk_H} (hh : wp_X10_part post this x1 P) : Met l yX10_part (ws_ yX10_part cX10_part 2 (some Jvm.ClassFile.FieldType.int)) ({ frames := 0, cells := 0, slots := 0, locals := 0 } : Room) (va_Pc [.ref this, .int (x1)] (zk_pre D g b0 P)) (va_Qi (fun r u => post r ∧ u = P) (zk_B D b0) (zk_A b0)) 0 0 (zk_A b0) := by
  refine zk_enter "LandFolio$Entry" "part" rfl rfl (plainFor_of_name (by decide)) [.ref this, .int (x1)] (Nat.le_of_ble_eq_true rfl) ?_
  intro p e s m args below meth c X
  refine zk_at0 (L' := [(0, va_rf (some this)), (1, .int (x1))]) (rfl) ?_
  have h := hh
  unfold wp_X10_part at h
  refine zv_iload_n X 1 dX10_part_0 rfl ?_
  refine zv_if_ne X (tgt := 11) dX10_part_1 (by decide) h (fun h => ?_) (fun h => ?_)
  · refine zv_iload_n X 1 dX10_part_11 rfl ?_
    refine zv_iconst X (v := 1) dX10_part_12 rfl ?_
    refine zv_icmp_ne X (tgt := 23) dX10_part_13 (by decide) h (fun h => ?_) (fun h => ?_)
    · refine zv_aload_n X 0 dX10_part_23 rfl ?_
      refine zv_getf_i X fo_q1338 dX10_part_24 h (fun v24 h => ?_)
      exact zv_iret X rfl (by first | exact Nat.le_of_ble_eq_true rfl | omega | (dsimp only; omega)) (by first | exact Nat.le_of_ble_eq_true rfl | omega | (dsimp only; omega)) dX10_part_27 ⟨h, rfl⟩
    · refine zv_aload_n X 0 dX10_part_16 rfl ?_
      refine zv_getf_i X fo_q1337 dX10_part_17 h (fun v17 h => ?_)
      refine zv_goto X (tgt := 27) dX10_part_20 (by decide) ?_
      exact zv_iret X rfl (by first | exact Nat.le_of_ble_eq_true rfl | omega | (dsimp only; omega)) (by first | exact Nat.le_of_ble_eq_true rfl | omega | (dsimp only; omega)) dX10_part_27 ⟨h, rfl⟩
  · refine zv_aload_n X 0 dX10_part_4 rfl ?_
    refine zv_getf_i X fo_q1336 dX10_part_5 h (fun v5 h => ?_)
    refine zv_goto X (tgt := 27) dX10_part_8 (by decide) ?_
    exact zv_iret X rfl (by first | exact Nat.le_of_ble_eq_true rfl | omega | (dsimp only; omega)) (by first | exact Nat.le_of_ble_eq_true rfl | omega | (dsimp only; omega)) dX10_part_27 ⟨h, rfl⟩
theorem md_X0_log : yX0_log.cls ≠ "java/lang/invoke/MethodHandle" ∧ yX0_log.cls ≠ "java/lang/invoke/VarHandle" ∧ (parseMethodDescriptor yX0_log.desc).map (fun d => d.parameters.length) = some 2 := by decide +kernel
theorem wk_X0_log (l : Launch) {D : zk_G} {g : zk_M} {b0 : Nat} {post : Int32 → Prop} {this : Nat} {x1 : Int32} {x2 : Int32} {P : zk_H} (hh : wp_X0_log post this x1 x2 P) : Met l yX0_log (ws_ yX0_log cX0_log 3 (some Jvm.ClassFile.FieldType.int)) ({ frames := 3, cells := 0, slots := 0, locals := 64 } : Room) (va_Pc [.ref this, .int (x1), .int (x2)] (zk_pre D g b0 P)) (va_Qi (fun r u => post r ∧ u = P) (zk_B D b0) (zk_A b0)) 0 0 (zk_A b0) := by
  refine zk_enter "LandFolio" "log" rfl rfl (plainFor_of_name (by decide)) [.ref this, .int (x1), .int (x2)] (Nat.le_of_ble_eq_true rfl) ?_
  intro p e s m args below meth c X
  refine zk_at0 (L' := [(0, va_rf (some this)), (1, .int (x1)), (2, .int (x2))]) (rfl) ?_
  have h := hh
  unfold wp_X0_log at h
  refine zv_iload_n X 1 dX0_log_0 rfl ?_
  refine zv_if_lt X (tgt := 13) dX0_log_1 (by decide) h (fun h => ?_) (fun h => ?_)
  · refine zv_iconst X (v := -1) dX0_log_13 rfl ?_
    exact zv_iret X rfl (by first | exact Nat.le_of_ble_eq_true rfl | omega | (dsimp only; omega)) (by first | exact Nat.le_of_ble_eq_true rfl | omega | (dsimp only; omega)) dX0_log_14 ⟨h, rfl⟩
  · refine zv_iload_n X 2 dX0_log_4 rfl ?_
    refine zv_iconst X (v := 0) dX0_log_5 rfl ?_
    refine zv_iconst X (v := 2) dX0_log_6 rfl ?_
    refine zv_ciR ((zr_S X (As := [.int (x2), .int (0), .int (2)]) (rest := []) (wk_X0_isIn l h) (va_cwS 3 X.hts (lw_S q462 q463 q102 q464) rfl rfl rfl md_X0_isIn ⟨Nat.le_of_ble_eq_true rfl, Nat.le_of_ble_eq_true rfl⟩) rfl rfl (zk_rs (Nat.le_of_ble_eq_true rfl)) dX0_log_7 ⟨by first | exact Nat.le_of_ble_eq_true rfl | omega | (dsimp only; omega), by first | exact Nat.le_of_ble_eq_true rfl | omega | (dsimp only; omega)⟩)) (fun v7 h => ?_)
    refine zv_if_ne X (tgt := 15) dX0_log_10 (by decide) h (fun h => ?_) (fun h => ?_)
    · refine zv_iload_n X 1 dX0_log_15 rfl ?_
      refine zv_aload_n X 0 dX0_log_16 rfl ?_
      refine zv_getf_r X fo_q402 dX0_log_17 h (fun v17 h => ?_)
      refine zv_getf_r X fo_q204 dX0_log_20 h (fun v20 h => ?_)
      refine zv_ciR ((zr_Vl X (As := []) (rest := [.int (x1)]) h (fun a h => wk_J2_size l h) (zk_l1 ⟨_, rfl, cwV 0 X.hts (lw_V q672 q362 q363 q106 q364) rfl rfl rfl ⟨rfl, md_J2_size⟩ ⟨Nat.le_of_ble_eq_true rfl, Nat.le_of_ble_eq_true rfl⟩⟩) rfl rfl (zk_rs (Nat.le_of_ble_eq_true rfl)) dX0_log_23 ⟨by first | exact Nat.le_of_ble_eq_true rfl | omega | (dsimp only; omega), by first | exact Nat.le_of_ble_eq_true rfl | omega | (dsimp only; omega)⟩)) (fun v23 h => ?_)
      refine zv_icmp_ge X (tgt := 50) dX0_log_26 (by decide) h (fun h => ?_) (fun h => ?_)
      · refine zv_bipush X (v := -2) dX0_log_50 rfl ?_
        exact zv_iret X rfl (by first | exact Nat.le_of_ble_eq_true rfl | omega | (dsimp only; omega)) (by first | exact Nat.le_of_ble_eq_true rfl | omega | (dsimp only; omega)) dX0_log_52 ⟨h, rfl⟩
      · refine zv_aload_n X 0 dX0_log_29 rfl ?_
        refine zv_getf_r X fo_q402 dX0_log_30 h (fun v30 h => ?_)
        refine zv_getf_r X fo_q204 dX0_log_33 h (fun v33 h => ?_)
        refine zv_iload_n X 1 dX0_log_36 rfl ?_
        refine zv_cqR ((zr_Vl X (As := [.int (x1)]) (rest := []) h (fun a h => wk_J2_get l h) (zk_l1 ⟨_, rfl, cwV 1 X.hts (lw_V q1771 q506 q507 q106 q508) rfl rfl rfl ⟨rfl, md_J2_get⟩ ⟨Nat.le_of_ble_eq_true rfl, Nat.le_of_ble_eq_true rfl⟩⟩) rfl rfl (zk_rs (Nat.le_of_ble_eq_true rfl)) dX0_log_37 ⟨by first | exact Nat.le_of_ble_eq_true rfl | omega | (dsimp only; omega), by first | exact Nat.le_of_ble_eq_true rfl | omega | (dsimp only; omega)⟩)) (fun v37 h => ?_)
        refine zv_cast X zk_cs4 q1869 dX0_log_40 h (fun h => ?_)
        refine zv_iload_n X 2 dX0_log_43 rfl ?_
        refine zv_ciR ((zr_Vl X (As := [.int (x2)]) (rest := []) h (fun a h => wk_X10_part l h) (zk_l1 ⟨_, rfl, cwV 1 X.hts (lw_V q1870 q1871 q1872 q130 q1873) rfl rfl rfl ⟨rfl, md_X10_part⟩ ⟨Nat.le_of_ble_eq_true rfl, Nat.le_of_ble_eq_true rfl⟩⟩) rfl rfl (zk_rs (Nat.le_of_ble_eq_true rfl)) dX0_log_44 ⟨by first | exact Nat.le_of_ble_eq_true rfl | omega | (dsimp only; omega), by first | exact Nat.le_of_ble_eq_true rfl | omega | (dsimp only; omega)⟩)) (fun v44 h => ?_)
        refine zv_goto X (tgt := 52) dX0_log_47 (by decide) ?_
        exact zv_iret X rfl (by first | exact Nat.le_of_ble_eq_true rfl | omega | (dsimp only; omega)) (by first | exact Nat.le_of_ble_eq_true rfl | omega | (dsimp only; omega)) dX0_log_52 ⟨h, rfl⟩
    · refine zv_iconst X (v := -1) dX0_log_13 rfl ?_
      exact zv_iret X rfl (by first | exact Nat.le_of_ble_eq_true rfl | omega | (dsimp only; omega)) (by first | exact Nat.le_of_ble_eq_true rfl | omega | (dsimp only; omega)) dX0_log_14 ⟨h, rfl⟩
theorem kj_X0_loaded_33 {p : Program} {l : Launch} {e : Env} {s : State} {m : MethodId} {args : Array Value} {below : List Frame} {meth : Method} {c : Code} {D : zk_G} {g : zk_M} {b0 : Nat} (X : zk_X p s m args meth c D g b0 cX0_loaded 2 "LandFolio" "loaded" (some Jvm.ClassFile.FieldType.float)) {post : UInt32 → Prop}  {s0 : UInt32} {P : zk_H}    (hh : wj_X0_loaded_33 post s0 P) : zV p l e ({ frames := 5, cells := 0, slots := 0, locals := 110 } : Room) s m args below meth c D b0 2 (0) (0) (MQ below (va_Qf (fun r u => post r ∧ u = P) (zk_B D b0) (zk_A b0)) args s 0 0 (zk_A b0)) P 33 [] [.float (s0)] := by
  have h := hh
  unfold wj_X0_loaded_33 at h
  exact zv_fret X rfl (by first | exact Nat.le_of_ble_eq_true rfl | omega | (dsimp only; omega)) (by first | exact Nat.le_of_ble_eq_true rfl | omega | (dsimp only; omega)) dX0_loaded_33 ⟨h, rfl⟩
theorem md_X0_loaded : yX0_loaded.cls ≠ "java/lang/invoke/MethodHandle" ∧ yX0_loaded.cls ≠ "java/lang/invoke/VarHandle" ∧ (parseMethodDescriptor yX0_loaded.desc).map (fun d => d.parameters.length) = some 1 := by decide +kernel
theorem wk_X0_loaded (l : Launch) {D : zk_G} {g : zk_M} {b0 : Nat} {post : UInt32 → Prop} {this : Nat} {x1 : Int32} {P : zk_H} (hh : wp_X0_loaded post this x1 P) : Met l yX0_loaded (ws_ yX0_loaded cX0_loaded 2 (some Jvm.ClassFile.FieldType.float)) ({ frames := 5, cells := 0, slots := 0, locals := 110 } : Room) (va_Pc [.ref this, .int (x1)] (zk_pre D g b0 P)) (va_Qf (fun r u => post r ∧ u = P) (zk_B D b0) (zk_A b0)) 0 0 (zk_A b0) := by
  refine zk_enter "LandFolio" "loaded" rfl rfl (plainFor_of_name (by decide)) [.ref this, .int (x1)] (Nat.le_of_ble_eq_true rfl) ?_
  intro p e s m args below meth c X
  refine zk_at0 (L' := [(0, va_rf (some this)), (1, .int (x1))]) (rfl) ?_
  have h := hh
  unfold wp_X0_loaded at h
  refine zv_aload_n X 0 dX0_loaded_0 rfl ?_
  refine zv_iload_n X 1 dX0_loaded_1 rfl ?_
  refine zv_ciR ((zr_Vl X (As := [.int (x1)]) (rest := []) h (fun a h => wk_X0_isParcel l h) (zk_l1 ⟨_, rfl, cwV 1 X.hts (lw_V q1364 q1366 qs33 q102 q1367) rfl rfl rfl ⟨rfl, md_X0_isParcel⟩ ⟨Nat.le_of_ble_eq_true rfl, Nat.le_of_ble_eq_true rfl⟩⟩) rfl rfl (zk_rs (Nat.le_of_ble_eq_true rfl)) dX0_loaded_2 ⟨by first | exact Nat.le_of_ble_eq_true rfl | omega | (dsimp only; omega), by first | exact Nat.le_of_ble_eq_true rfl | omega | (dsimp only; omega)⟩)) (fun v2 h => ?_)
  refine zv_if_eq X (tgt := 30) dX0_loaded_5 (by decide) h (fun h => ?_) (fun h => ?_)
  · refine zv_ldcwf X q1878 dX0_loaded_30 ?_
    refine zv_sub (L' := []) [] rfl ?_
    exact kj_X0_loaded_33 X  h
  · refine zv_aload_n X 0 dX0_loaded_8 rfl ?_
    refine zv_getf_r X fo_q402 dX0_loaded_9 h (fun v9 h => ?_)
    refine zv_iload_n X 1 dX0_loaded_12 rfl ?_
    refine zv_ciR ((zr_Vl X (As := [.int (x1)]) (rest := []) h (fun a h => wk_X1_load l h) (zk_l1 ⟨_, rfl, cwV 1 X.hts (lw_V q1712 q1713 q1714 q103 q1715) rfl rfl rfl ⟨rfl, md_X1_load⟩ ⟨Nat.le_of_ble_eq_true rfl, Nat.le_of_ble_eq_true rfl⟩⟩) rfl rfl (zk_rs (Nat.le_of_ble_eq_true rfl)) dX0_loaded_13 ⟨by first | exact Nat.le_of_ble_eq_true rfl | omega | (dsimp only; omega), by first | exact Nat.le_of_ble_eq_true rfl | omega | (dsimp only; omega)⟩)) (fun v13 h => ?_)
    refine zv_i2f X dX0_loaded_16 ?_
    refine zv_aload_n X 0 dX0_loaded_17 rfl ?_
    refine zv_getf_r X fo_q402 dX0_loaded_18 h (fun v18 h => ?_)
    refine zv_iload_n X 1 dX0_loaded_21 rfl ?_
    refine zv_ciR ((zr_Vl X (As := [.int (x1)]) (rest := [.float (FP.i2f v13)]) h (fun a h => wk_X1_value l h) (zk_l1 ⟨_, rfl, cwV 1 X.hts (lw_V q1716 q1542 q1543 q103 q1544) rfl rfl rfl ⟨rfl, md_X1_value⟩ ⟨Nat.le_of_ble_eq_true rfl, Nat.le_of_ble_eq_true rfl⟩⟩) rfl rfl (zk_rs (Nat.le_of_ble_eq_true rfl)) dX0_loaded_22 ⟨by first | exact Nat.le_of_ble_eq_true rfl | omega | (dsimp only; omega), by first | exact Nat.le_of_ble_eq_true rfl | omega | (dsimp only; omega)⟩)) (fun v22 h => ?_)
    refine zv_i2f X dX0_loaded_25 ?_
    obtain ⟨z26, h⟩ := h
    refine zv_fdiv X dX0_loaded_26 z26 ?_
    refine zv_goto X (tgt := 33) dX0_loaded_27 (by decide) ?_
    refine zv_sub (L' := []) [] rfl ?_
    exact kj_X0_loaded_33 X  h
theorem md_X0_meanArea : yX0_meanArea.cls ≠ "java/lang/invoke/MethodHandle" ∧ yX0_meanArea.cls ≠ "java/lang/invoke/VarHandle" ∧ (parseMethodDescriptor yX0_meanArea.desc).map (fun d => d.parameters.length) = some 0 := by decide +kernel
theorem wk_X0_meanArea (l : Launch) {D : zk_G} {g : zk_M} {b0 : Nat} {post : UInt64 → Prop} {this : Nat} {P : zk_H} (hh : wp_X0_meanArea post this P) : Met l yX0_meanArea (ws_ yX0_meanArea cX0_meanArea 1 (some Jvm.ClassFile.FieldType.double)) ({ frames := 5, cells := 0, slots := 0, locals := 107 } : Room) (va_Pc [.ref this] (zk_pre D g b0 P)) (va_Qd (fun r u => post r ∧ u = P) (zk_B D b0) (zk_A b0)) 0 0 (zk_A b0) := by
  refine zk_enter "LandFolio" "meanArea" rfl rfl (plainFor_of_name (by decide)) [.ref this] (Nat.le_of_ble_eq_true rfl) ?_
  intro p e s m args below meth c X
  refine zk_at0 (L' := [(0, va_rf (some this))]) (rfl) ?_
  have h := hh
  unfold wp_X0_meanArea at h
  refine zv_aload_n X 0 dX0_meanArea_0 rfl ?_
  refine zv_getf_r X fo_q402 dX0_meanArea_1 h (fun v1 h => ?_)
  refine zv_getf_i X fo_q184 dX0_meanArea_4 h (fun v4 h => ?_)
  refine zv_aload_n X 0 dX0_meanArea_7 rfl ?_
  refine zv_getf_r X fo_q402 dX0_meanArea_8 h (fun v8 h => ?_)
  refine zv_getf_i X fo_q186 dX0_meanArea_11 h (fun v11 h => ?_)
  refine zv_imul X dX0_meanArea_14 ?_
  refine zv_i2d X dX0_meanArea_15 ?_
  refine zv_aload_n X 0 dX0_meanArea_16 rfl ?_
  refine zv_ciR ((zr_Vl X (As := []) (rest := [.double (FP.i2d (v4 * v11))]) h (fun a h => wk_X0_live l h) (zk_l1 ⟨_, rfl, cwV 0 X.hts (lw_V q1587 q1589 qs37 q102 q1590) rfl rfl rfl ⟨rfl, md_X0_live⟩ ⟨Nat.le_of_ble_eq_true rfl, Nat.le_of_ble_eq_true rfl⟩⟩) rfl rfl (zk_rs (Nat.le_of_ble_eq_true rfl)) dX0_meanArea_17 ⟨by first | exact Nat.le_of_ble_eq_true rfl | omega | (dsimp only; omega), by first | exact Nat.le_of_ble_eq_true rfl | omega | (dsimp only; omega)⟩)) (fun v17 h => ?_)
  refine zv_i2d X dX0_meanArea_20 ?_
  obtain ⟨z21, h⟩ := h
  refine zv_ddiv X dX0_meanArea_21 z21 ?_
  exact zv_dret X rfl (by first | exact Nat.le_of_ble_eq_true rfl | omega | (dsimp only; omega)) (by first | exact Nat.le_of_ble_eq_true rfl | omega | (dsimp only; omega)) dX0_meanArea_22 ⟨h, rfl⟩
theorem kj_X0_sign_36 {p : Program} {l : Launch} {e : Env} {s : State} {m : MethodId} {args : Array Value} {below : List Frame} {meth : Method} {c : Code} {D : zk_G} {g : zk_M} {b0 : Nat} (X : zk_X p s m args meth c D g b0 cX0_sign 1 "LandFolio" "sign" (some Jvm.ClassFile.FieldType.char)) {post : Int32 → Prop}  {s0 : Int32} {P : zk_H}    (hh : wj_X0_sign_36 post s0) : zV p l e ({ frames := 0, cells := 0, slots := 0, locals := 0 } : Room) s m args below meth c D b0 1 (0) (0) (MQ below (va_Qi (fun r u => post r ∧ u = P) (zk_B D b0) (zk_A b0)) args s 0 0 (zk_A b0)) P 36 [] [.int (s0)] := by
  have h := hh
  unfold wj_X0_sign_36 at h
  refine zv_i2c X dX0_sign_36 ?_
  obtain ⟨hb, h⟩ := h
  exact zv_zret X (ty := .char) rfl (by first | exact Nat.le_of_ble_eq_true rfl | omega | (dsimp only; omega)) (by first | exact Nat.le_of_ble_eq_true rfl | omega | (dsimp only; omega)) dX0_sign_37 ⟨hb, ⟨h, rfl⟩⟩
theorem md_X0_sign : yX0_sign.cls ≠ "java/lang/invoke/MethodHandle" ∧ yX0_sign.cls ≠ "java/lang/invoke/VarHandle" ∧ (parseMethodDescriptor yX0_sign.desc).map (fun d => d.parameters.length) = some 1 := by decide +kernel
theorem wk_X0_sign (l : Launch) {D : zk_G} {g : zk_M} {b0 : Nat} {post : Int32 → Prop} {x0 : Int32} {P : zk_H} (hh : wp_X0_sign post x0) : Met l yX0_sign (ws_ yX0_sign cX0_sign 1 (some Jvm.ClassFile.FieldType.char)) ({ frames := 0, cells := 0, slots := 0, locals := 0 } : Room) (va_Pc [.int (x0)] (zk_pre D g b0 P)) (va_Qi (fun r u => post r ∧ u = P) (zk_B D b0) (zk_A b0)) 0 0 (zk_A b0) := by
  refine zk_enter "LandFolio" "sign" rfl rfl (plainFor_of_name (by decide)) [.int (x0)] (Nat.le_of_ble_eq_true rfl) ?_
  intro p e s m args below meth c X
  refine zk_at0 (L' := [(0, .int (x0))]) (rfl) ?_
  have h := hh
  unfold wp_X0_sign at h
  refine zv_iload_n X 0 dX0_sign_0 rfl ?_
  refine zv_bipush X (v := 10) dX0_sign_1 rfl ?_
  refine zv_icmp_ge X (tgt := 13) dX0_sign_3 (by decide) h (fun h => ?_) (fun h => ?_)
  · refine zv_iload_n X 0 dX0_sign_13 rfl ?_
    refine zv_bipush X (v := 36) dX0_sign_14 rfl ?_
    refine zv_icmp_ge X (tgt := 29) dX0_sign_16 (by decide) h (fun h => ?_) (fun h => ?_)
    · refine zv_bipush X (v := 65) dX0_sign_29 rfl ?_
      refine zv_iload_n X 0 dX0_sign_31 rfl ?_
      refine zv_iadd X dX0_sign_32 ?_
      refine zv_bipush X (v := 36) dX0_sign_33 rfl ?_
      refine zv_isub X dX0_sign_35 ?_
      refine zv_sub (L' := []) [] rfl ?_
      exact kj_X0_sign_36 X  h
    · refine zv_bipush X (v := 97) dX0_sign_19 rfl ?_
      refine zv_iload_n X 0 dX0_sign_21 rfl ?_
      refine zv_iadd X dX0_sign_22 ?_
      refine zv_bipush X (v := 10) dX0_sign_23 rfl ?_
      refine zv_isub X dX0_sign_25 ?_
      refine zv_goto X (tgt := 36) dX0_sign_26 (by decide) ?_
      refine zv_sub (L' := []) [] rfl ?_
      exact kj_X0_sign_36 X  h
  · refine zv_bipush X (v := 48) dX0_sign_6 rfl ?_
    refine zv_iload_n X 0 dX0_sign_8 rfl ?_
    refine zv_iadd X dX0_sign_9 ?_
    refine zv_goto X (tgt := 36) dX0_sign_10 (by decide) ?_
    refine zv_sub (L' := []) [] rfl ?_
    exact kj_X0_sign_36 X  h
theorem kb_X0_map_23 {p : Program} {l : Launch} {e : Env} {s : State} {m : MethodId} {args : Array Value} {below : List Frame} {meth : Method} {c : Code} {D : zk_G} {g : zk_M} {b0 : Nat} (X : zk_X p s m args meth c D g b0 cX0_map 4 "LandFolio" "map" (some (Jvm.ClassFile.FieldType.object "java/lang/StringBuilder"))) {post : Option Nat → zk_H → Prop} {K10 : Int32 → zk_H → Nat → Nat → Prop} {K23 : Int32 → zk_H → Nat → Nat → Prop} {a0 : Option Nat} {a1 : Option Nat} {a2 : Int32} {a3 : Int32} {P : zk_H} {k0 n0 k n c0 c1 : Nat} (hK10 : ∀ (u2 : Int32) (U : zk_H) (k n d0 d1 : Nat), d0 + k ≤ k0 → d1 + n ≤ n0 → K10 u2 U k n → zV p l e ({ frames := 6, cells := k0, slots := n0, locals := 133 } : Room) s m args below meth c D b0 4 (d0) (d1) (MQ below (va_Qq post (zk_B D b0) (zk_A b0)) args s k0 n0 (zk_A b0)) U 10 [(0, va_rf (a0)), (1, va_rf (a1)), (2, .int (u2))] []) (hK23 : ∀ (u3 : Int32) (U : zk_H) (k n d0 d1 : Nat), d0 + k ≤ k0 → d1 + n ≤ n0 → K23 u3 U k n → zV p l e ({ frames := 6, cells := k0, slots := n0, locals := 133 } : Room) s m args below meth c D b0 4 (d0) (d1) (MQ below (va_Qq post (zk_B D b0) (zk_A b0)) args s k0 n0 (zk_A b0)) U 23 [(0, va_rf (a0)), (1, va_rf (a1)), (2, .int (a2)), (3, .int (u3))] []) (hc0 : c0 + k ≤ k0) (hc1 : c1 + n ≤ n0) (hh : wb_X0_map_23 post K10 a0 a1 a2 K23 a3 P k n) : zV p l e ({ frames := 6, cells := k0, slots := n0, locals := 133 } : Room) s m args below meth c D b0 4 (c0) (c1) (MQ below (va_Qq post (zk_B D b0) (zk_A b0)) args s k0 n0 (zk_A b0)) P 23 [(0, va_rf (a0)), (1, va_rf (a1)), (2, .int (a2)), (3, .int (a3))] [] := by
  have h := hh
  unfold wb_X0_map_23 at h
  refine zv_iload_n X 3 dX0_map_23 rfl ?_
  refine zv_aload_n X 0 dX0_map_24 rfl ?_
  refine zv_getf_r X fo_q402 dX0_map_25 h (fun v25 h => ?_)
  refine zv_getf_i X fo_q184 dX0_map_28 h (fun v28 h => ?_)
  refine zv_icmp_ge X (tgt := 57) dX0_map_31 (by decide) h (fun h => ?_) (fun h => ?_)
  · refine zv_aload_n X 1 dX0_map_57 rfl ?_
    refine zv_bipush X (v := 10) dX0_map_58 rfl ?_
    obtain ⟨k60, n60, f601, f602, h⟩ := h
    refine zv_cq ((zr_Vl X (As := [.int (10)]) (rest := []) h (fun a h => wk_J8_append l h) (zk_l1 ⟨_, rfl, cwV 1 X.hts (lw_V q1314 q789 q790 q117 q791) rfl rfl rfl ⟨rfl, md_J8_append⟩ ⟨Nat.le_of_ble_eq_true rfl, Nat.le_of_ble_eq_true rfl⟩⟩) rfl rfl (zk_rs (Nat.le_of_ble_eq_true rfl)) dX0_map_60 ⟨by dsimp only; omega, by dsimp only; omega⟩)) (fun v60 P60 h => ?_)
    refine zv_pop X dX0_map_63 (zk_rc _) ?_
    obtain ⟨v64, e64, h⟩ := zt_e h
    refine zv_iinc X (v := v64) (L' := [(2, .int (v64)), (0, va_rf (a0)), (1, va_rf (a1)), (3, .int (a3))]) 2 dX0_map_64 rfl e64 (by decide) (by simp [zk_s1, zk_rc, zk_ic, zk_jc]) ?_
    refine zv_goto X (tgt := 10) dX0_map_67 (by decide) ?_
    refine zv_sub (L' := [(0, va_rf (a0)), (1, va_rf (a1)), (2, .int (v64))]) [1, 2, 0] rfl ?_
    exact hK10 _ _ _ _ _ _ (by omega) (by omega) h
  · refine zv_aload_n X 1 dX0_map_34 rfl ?_
    refine zv_aload_n X 0 dX0_map_35 rfl ?_
    refine zv_getf_r X fo_q402 dX0_map_36 h (fun v36 h => ?_)
    refine zv_iload_n X 3 dX0_map_39 rfl ?_
    refine zv_iload_n X 2 dX0_map_40 rfl ?_
    refine zv_ciR ((zr_Vl X (As := [.int (a3), .int (a2)]) (rest := [va_rf (a1)]) h (fun a h => wk_X1_liveAt l h) (zk_l1 ⟨_, rfl, cwV 2 X.hts (lw_V q1481 q1482 q1483 q103 q1484) rfl rfl rfl ⟨rfl, md_X1_liveAt⟩ ⟨Nat.le_of_ble_eq_true rfl, Nat.le_of_ble_eq_true rfl⟩⟩) rfl rfl (zk_rs (Nat.le_of_ble_eq_true rfl)) dX0_map_41 ⟨by dsimp only; omega, by dsimp only; omega⟩)) (fun v41 h => ?_)
    refine zv_ciR ((zr_S X (As := [.int (v41)]) (rest := [va_rf (a1)]) (wk_X0_sign l h) (va_cwS 1 X.hts (lw_S q1891 q1892 q102 q1893) rfl rfl rfl md_X0_sign ⟨Nat.le_of_ble_eq_true rfl, Nat.le_of_ble_eq_true rfl⟩) rfl rfl (zk_rs (Nat.le_of_ble_eq_true rfl)) dX0_map_44 ⟨by dsimp only; omega, by dsimp only; omega⟩)) (fun v44 h => ?_)
    obtain ⟨k47, n47, f471, f472, h⟩ := h
    refine zv_cq ((zr_Vl X (As := [.int (v44)]) (rest := []) h (fun a h => wk_J8_append l h) (zk_l1 ⟨_, rfl, cwV 1 X.hts (lw_V q1314 q789 q790 q117 q791) rfl rfl rfl ⟨rfl, md_J8_append⟩ ⟨Nat.le_of_ble_eq_true rfl, Nat.le_of_ble_eq_true rfl⟩⟩) rfl rfl (zk_rs (Nat.le_of_ble_eq_true rfl)) dX0_map_47 ⟨by dsimp only; omega, by dsimp only; omega⟩)) (fun v47 P47 h => ?_)
    refine zv_pop X dX0_map_50 (zk_rc _) ?_
    obtain ⟨v51, e51, h⟩ := zt_e h
    refine zv_iinc X (v := v51) (L' := [(3, .int (v51)), (0, va_rf (a0)), (1, va_rf (a1)), (2, .int (a2))]) 3 dX0_map_51 rfl e51 (by decide) rfl ?_
    refine zv_goto X (tgt := 23) dX0_map_54 (by decide) ?_
    refine zv_sub (L' := [(0, va_rf (a0)), (1, va_rf (a1)), (2, .int (a2)), (3, .int (v51))]) [1, 2, 3, 0] rfl ?_
    exact hK23 _ _ _ _ _ _ (by omega) (by omega) h
theorem kl_X0_map_23 {p : Program} {l : Launch} {e : Env} {s : State} {m : MethodId} {args : Array Value} {below : List Frame} {meth : Method} {c : Code} {D : zk_G} {g : zk_M} {b0 : Nat} (X : zk_X p s m args meth c D g b0 cX0_map 4 "LandFolio" "map" (some (Jvm.ClassFile.FieldType.object "java/lang/StringBuilder"))) {post : Option Nat → zk_H → Prop} {K10 : Int32 → zk_H → Nat → Nat → Prop} {a0 : Option Nat} {a1 : Option Nat} {a2 : Int32} {k0 n0 : Nat} (hK10 : ∀ (u2 : Int32) (U : zk_H) (k n d0 d1 : Nat), d0 + k ≤ k0 → d1 + n ≤ n0 → K10 u2 U k n → zV p l e ({ frames := 6, cells := k0, slots := n0, locals := 133 } : Room) s m args below meth c D b0 4 (d0) (d1) (MQ below (va_Qq post (zk_B D b0) (zk_A b0)) args s k0 n0 (zk_A b0)) U 10 [(0, va_rf (a0)), (1, va_rf (a1)), (2, .int (u2))] [])  : ∀ (n9 : Nat) (a3 : Int32) (P : zk_H) (k n c0 c1 : Nat) (hc0 : c0 + k ≤ k0) (hc1 : c1 + n ≤ n0), wl_X0_map_23 post K10 a0 a1 a2 n9 a3 P k n → zV p l e ({ frames := 6, cells := k0, slots := n0, locals := 133 } : Room) s m args below meth c D b0 4 (c0) (c1) (MQ below (va_Qq post (zk_B D b0) (zk_A b0)) args s k0 n0 (zk_A b0)) P 23 [(0, va_rf (a0)), (1, va_rf (a1)), (2, .int (a2)), (3, .int (a3))] [] := by
  intro n9
  induction n9 with
  | zero => intro _ _ _ _ _ _ _ _ h; exact h.elim
  | succ n9 ih =>
    intro a3 P k n c0 c1 hc0 hc1 h
    exact kb_X0_map_23 X hK10 (fun u0 u1 u2 u3 u4 u5 e1 e2 h => ih _ _ _ _ _ _ e1 e2 h) hc0 hc1 h
theorem kb_X0_map_10 {p : Program} {l : Launch} {e : Env} {s : State} {m : MethodId} {args : Array Value} {below : List Frame} {meth : Method} {c : Code} {D : zk_G} {g : zk_M} {b0 : Nat} (X : zk_X p s m args meth c D g b0 cX0_map 4 "LandFolio" "map" (some (Jvm.ClassFile.FieldType.object "java/lang/StringBuilder"))) {post : Option Nat → zk_H → Prop}  {K10 : Int32 → zk_H → Nat → Nat → Prop} {a0 : Option Nat} {a1 : Option Nat} {a2 : Int32} {P : zk_H} {k0 n0 k n c0 c1 : Nat}  (hK10 : ∀ (u2 : Int32) (U : zk_H) (k n d0 d1 : Nat), d0 + k ≤ k0 → d1 + n ≤ n0 → K10 u2 U k n → zV p l e ({ frames := 6, cells := k0, slots := n0, locals := 133 } : Room) s m args below meth c D b0 4 (d0) (d1) (MQ below (va_Qq post (zk_B D b0) (zk_A b0)) args s k0 n0 (zk_A b0)) U 10 [(0, va_rf (a0)), (1, va_rf (a1)), (2, .int (u2))] []) (hc0 : c0 + k ≤ k0) (hc1 : c1 + n ≤ n0) (hh : wb_X0_map_10 post a0 a1 K10 a2 P k n) : zV p l e ({ frames := 6, cells := k0, slots := n0, locals := 133 } : Room) s m args below meth c D b0 4 (c0) (c1) (MQ below (va_Qq post (zk_B D b0) (zk_A b0)) args s k0 n0 (zk_A b0)) P 10 [(0, va_rf (a0)), (1, va_rf (a1)), (2, .int (a2))] [] := by
  have h := hh
  unfold wb_X0_map_10 at h
  refine zv_iload_n X 2 dX0_map_10 rfl ?_
  refine zv_aload_n X 0 dX0_map_11 rfl ?_
  refine zv_getf_r X fo_q402 dX0_map_12 h (fun v12 h => ?_)
  refine zv_getf_i X fo_q186 dX0_map_15 h (fun v15 h => ?_)
  refine zv_icmp_ge X (tgt := 70) dX0_map_18 (by decide) h (fun h => ?_) (fun h => ?_)
  · refine zv_aload_n X 1 dX0_map_70 rfl ?_
    exact zv_aret X rfl (Or.inl ⟨_, rfl⟩) (by omega) (by omega) dX0_map_71 h
  · refine zv_iconst X (v := 0) dX0_map_21 rfl ?_
    refine zv_istore_n X (i := 3) (L' := [(3, .int (0)), (0, va_rf (a0)), (1, va_rf (a1)), (2, .int (a2))]) dX0_map_22 rfl (by decide) rfl ?_
    refine zv_sub (L' := [(0, va_rf (a0)), (1, va_rf (a1)), (2, .int (a2)), (3, .int (0))]) [1, 2, 3, 0] rfl ?_
    obtain ⟨n22, h⟩ := h
    exact kl_X0_map_23 X hK10 n22 _ _ _ _ _ _ (by omega) (by omega) h
theorem kl_X0_map_10 {p : Program} {l : Launch} {e : Env} {s : State} {m : MethodId} {args : Array Value} {below : List Frame} {meth : Method} {c : Code} {D : zk_G} {g : zk_M} {b0 : Nat} (X : zk_X p s m args meth c D g b0 cX0_map 4 "LandFolio" "map" (some (Jvm.ClassFile.FieldType.object "java/lang/StringBuilder"))) {post : Option Nat → zk_H → Prop}  {a0 : Option Nat} {a1 : Option Nat} {k0 n0 : Nat}   : ∀ (n9 : Nat) (a2 : Int32) (P : zk_H) (k n c0 c1 : Nat) (hc0 : c0 + k ≤ k0) (hc1 : c1 + n ≤ n0), wl_X0_map_10 post a0 a1 n9 a2 P k n → zV p l e ({ frames := 6, cells := k0, slots := n0, locals := 133 } : Room) s m args below meth c D b0 4 (c0) (c1) (MQ below (va_Qq post (zk_B D b0) (zk_A b0)) args s k0 n0 (zk_A b0)) P 10 [(0, va_rf (a0)), (1, va_rf (a1)), (2, .int (a2))] [] := by
  intro n9
  induction n9 with
  | zero => intro _ _ _ _ _ _ _ _ h; exact h.elim
  | succ n9 ih =>
    intro a2 P k n c0 c1 hc0 hc1 h
    exact kb_X0_map_10 X  (fun u0 u1 u2 u3 u4 u5 e1 e2 h => ih _ _ _ _ _ _ e1 e2 h) hc0 hc1 h
theorem md_X0_map : yX0_map.cls ≠ "java/lang/invoke/MethodHandle" ∧ yX0_map.cls ≠ "java/lang/invoke/VarHandle" ∧ (parseMethodDescriptor yX0_map.desc).map (fun d => d.parameters.length) = some 0 := by decide +kernel
theorem wk_X0_map (l : Launch) {D : zk_G} {g : zk_M} {b0 : Nat} {post : Option Nat → zk_H → Prop} {this : Nat} {P : zk_H} {k0 n0 : Nat} (hh : wp_X0_map post this P k0 n0) : Met l yX0_map (ws_ yX0_map cX0_map 4 (some (Jvm.ClassFile.FieldType.object "java/lang/StringBuilder"))) ({ frames := 6, cells := k0, slots := n0, locals := 133 } : Room) (va_Pc [.ref this] (zk_pre D g b0 P)) (va_Qq post (zk_B D b0) (zk_A b0)) k0 n0 (zk_A b0) := by
  refine zk_enter "LandFolio" "map" rfl rfl (plainFor_of_name (by decide)) [.ref this] (Nat.le_of_ble_eq_true rfl) ?_
  intro p e s m args below meth c X
  refine zk_at0 (L' := [(0, va_rf (some this))]) (rfl) ?_
  have h := hh
  unfold wp_X0_map at h
  obtain ⟨f01, f02, h⟩ := h
  refine zv_new X zk_nc14 q1312 (by dsimp only; omega) (by dsimp only; omega) dX0_map_0 h (fun v0 P0 h => ?_)
  refine zv_dup X dX0_map_3 (zk_rc _) ?_
  obtain ⟨f41, f42, h⟩ := h
  refine zv_cv ((zr_I X (As := []) (rest := [va_rf (some v0)]) (wk_J8_init l h) (cwI 0 X.hts (lw_meth q754) rfl rfl rfl (X.w q117) (X.w q1313) (X.w q753) rfl md_J8_init ⟨Nat.le_of_ble_eq_true rfl, Nat.le_of_ble_eq_true rfl⟩) rfl rfl (zk_rs (Nat.le_of_ble_eq_true rfl)) dX0_map_4 ⟨by dsimp only; omega, by dsimp only; omega⟩)) (fun P4 h => ?_)
  refine zv_astore_n X (i := 1) (L' := [(1, va_rf (some v0)), (0, va_rf (some this))]) dX0_map_7 rfl (by decide) rfl ?_
  refine zv_iconst X (v := 0) dX0_map_8 rfl ?_
  refine zv_istore_n X (i := 2) (L' := [(2, .int (0)), (1, va_rf (some v0)), (0, va_rf (some this))]) dX0_map_9 rfl (by decide) rfl ?_
  refine zv_sub (L' := [(0, va_rf (some this)), (1, va_rf (some v0)), (2, .int (0))]) [2, 1, 0] rfl ?_
  obtain ⟨n9, h⟩ := h
  exact kl_X0_map_10 X  n9 _ _ _ _ _ _ (by omega) (by omega) h
theorem md_X0_mapLength : yX0_mapLength.cls ≠ "java/lang/invoke/MethodHandle" ∧ yX0_mapLength.cls ≠ "java/lang/invoke/VarHandle" ∧ (parseMethodDescriptor yX0_mapLength.desc).map (fun d => d.parameters.length) = some 0 := by decide +kernel
theorem wk_X0_mapLength (l : Launch) {D : zk_G} {g : zk_M} {b0 : Nat} {post : Int32 → zk_H → Prop} {this : Nat} {P : zk_H} (hh : wp_X0_mapLength post this P) : Met l yX0_mapLength (ws_ yX0_mapLength cX0_mapLength 1 (some Jvm.ClassFile.FieldType.int)) ({ frames := 7, cells := 0, slots := 0, locals := 156 } : Room) (va_Pc [.ref this] (zk_pre D g b0 P)) (va_Qi post (zk_B D b0) (zk_A b0)) 0 0 (zk_A b0) := by
  refine zk_enter "LandFolio" "mapLength" rfl rfl (plainFor_of_name (by decide)) [.ref this] (Nat.le_of_ble_eq_true rfl) ?_
  intro p e s m args below meth c X
  refine zk_at0 (L' := [(0, va_rf (some this))]) (rfl) ?_
  have h := hh
  unfold wp_X0_mapLength at h
  refine zv_aload_n X 0 dX0_mapLength_0 rfl ?_
  refine zv_cq ((zr_Vl X (As := []) (rest := []) h (fun a h => wk_X0_map l h) (zk_l1 ⟨_, rfl, cwV 0 X.hts (lw_V q1887 q1889 qs52 q102 q1890) rfl rfl rfl ⟨rfl, md_X0_map⟩ ⟨Nat.le_of_ble_eq_true rfl, Nat.le_of_ble_eq_true rfl⟩⟩) rfl rfl (zk_rs (Nat.le_of_ble_eq_true rfl)) dX0_mapLength_1 ⟨by first | exact Nat.le_of_ble_eq_true rfl | omega | (dsimp only; omega), by first | exact Nat.le_of_ble_eq_true rfl | omega | (dsimp only; omega)⟩)) (fun v1 P1 h => ?_)
  refine zv_ciR ((zr_Vl X (As := []) (rest := []) h (fun a h => wk_J8_length l h) (zk_l1 ⟨_, rfl, cwV 0 X.hts (lw_V q1894 q782 q783 q117 q784) rfl rfl rfl ⟨rfl, md_J8_length⟩ ⟨Nat.le_of_ble_eq_true rfl, Nat.le_of_ble_eq_true rfl⟩⟩) rfl rfl (zk_rs (Nat.le_of_ble_eq_true rfl)) dX0_mapLength_4 ⟨by first | exact Nat.le_of_ble_eq_true rfl | omega | (dsimp only; omega), by first | exact Nat.le_of_ble_eq_true rfl | omega | (dsimp only; omega)⟩)) (fun v4 h => ?_)
  exact zv_iret X rfl (by first | exact Nat.le_of_ble_eq_true rfl | omega | (dsimp only; omega)) (by first | exact Nat.le_of_ble_eq_true rfl | omega | (dsimp only; omega)) dX0_mapLength_7 h
theorem md_X0_byteOf : yX0_byteOf.cls ≠ "java/lang/invoke/MethodHandle" ∧ yX0_byteOf.cls ≠ "java/lang/invoke/VarHandle" ∧ (parseMethodDescriptor yX0_byteOf.desc).map (fun d => d.parameters.length) = some 2 := by decide +kernel
theorem wk_X0_byteOf (l : Launch) {D : zk_G} {g : zk_M} {b0 : Nat} {post : Int32 → Prop} {x0 : Option Nat} {x1 : Int32} {P : zk_H} (hh : wp_X0_byteOf g post x0 x1 P) : Met l yX0_byteOf (ws_ yX0_byteOf cX0_byteOf 2 (some Jvm.ClassFile.FieldType.int)) ({ frames := 4, cells := 0, slots := 0, locals := 88 } : Room) (va_Pc [va_rf (x0), .int (x1)] (zk_pre D g b0 P)) (va_Qi (fun r u => post r ∧ u = P) (zk_B D b0) (zk_A b0)) 0 0 (zk_A b0) := by
  refine zk_enter "LandFolio" "byteOf" rfl rfl (plainFor_of_name (by decide)) [va_rf (x0), .int (x1)] (by cases x0 <;> exact Nat.le_of_ble_eq_true rfl) ?_
  intro p e s m args below meth c X
  refine zk_at0 (L' := [(0, va_rf (x0)), (1, .int (x1))]) (by cases x0 <;> rfl) ?_
  have h := hh
  unfold wp_X0_byteOf at h
  refine zv_iload_n X 1 dX0_byteOf_0 rfl ?_
  refine zv_if_ge X (tgt := 8) dX0_byteOf_1 (by decide) h (fun h => ?_) (fun h => ?_)
  · refine zv_iload_n X 1 dX0_byteOf_8 rfl ?_
    refine zv_aload_n X 0 dX0_byteOf_9 rfl ?_
    refine zv_ciR ((zr_Vl X (As := []) (rest := [.int (x1)]) h (fun a h => wk_J8_length l h) (zk_l1 ⟨_, rfl, cwV 0 X.hts (lw_V q1894 q782 q783 q117 q784) rfl rfl rfl ⟨rfl, md_J8_length⟩ ⟨Nat.le_of_ble_eq_true rfl, Nat.le_of_ble_eq_true rfl⟩⟩) rfl rfl (zk_rs (Nat.le_of_ble_eq_true rfl)) dX0_byteOf_10 ⟨by first | exact Nat.le_of_ble_eq_true rfl | omega | (dsimp only; omega), by first | exact Nat.le_of_ble_eq_true rfl | omega | (dsimp only; omega)⟩)) (fun v10 h => ?_)
    refine zv_icmp_ge X (tgt := 24) dX0_byteOf_13 (by decide) h (fun h => ?_) (fun h => ?_)
    · refine zv_bipush X (v := -2) dX0_byteOf_24 rfl ?_
      exact zv_iret X rfl (by first | exact Nat.le_of_ble_eq_true rfl | omega | (dsimp only; omega)) (by first | exact Nat.le_of_ble_eq_true rfl | omega | (dsimp only; omega)) dX0_byteOf_26 ⟨h, rfl⟩
    · refine zv_aload_n X 0 dX0_byteOf_16 rfl ?_
      refine zv_iload_n X 1 dX0_byteOf_17 rfl ?_
      refine zv_ciR ((zr_Vl X (As := [.int (x1)]) (rest := []) h (fun a h => wk_J8_charAt l h) (zk_l1 ⟨_, rfl, cwV 1 X.hts (lw_V q1902 q1903 q1904 q117 q1905) rfl rfl rfl ⟨rfl, md_J8_charAt⟩ ⟨Nat.le_of_ble_eq_true rfl, Nat.le_of_ble_eq_true rfl⟩⟩) rfl rfl (zk_rs (Nat.le_of_ble_eq_true rfl)) dX0_byteOf_18 ⟨by first | exact Nat.le_of_ble_eq_true rfl | omega | (dsimp only; omega), by first | exact Nat.le_of_ble_eq_true rfl | omega | (dsimp only; omega)⟩)) (fun v18 h => ?_)
      refine zv_goto X (tgt := 26) dX0_byteOf_21 (by decide) ?_
      exact zv_iret X rfl (by first | exact Nat.le_of_ble_eq_true rfl | omega | (dsimp only; omega)) (by first | exact Nat.le_of_ble_eq_true rfl | omega | (dsimp only; omega)) dX0_byteOf_26 ⟨h, rfl⟩
  · refine zv_iconst X (v := -1) dX0_byteOf_4 rfl ?_
    refine zv_goto X (tgt := 26) dX0_byteOf_5 (by decide) ?_
    exact zv_iret X rfl (by first | exact Nat.le_of_ble_eq_true rfl | omega | (dsimp only; omega)) (by first | exact Nat.le_of_ble_eq_true rfl | omega | (dsimp only; omega)) dX0_byteOf_26 ⟨h, rfl⟩
theorem md_X0_mapByte : yX0_mapByte.cls ≠ "java/lang/invoke/MethodHandle" ∧ yX0_mapByte.cls ≠ "java/lang/invoke/VarHandle" ∧ (parseMethodDescriptor yX0_mapByte.desc).map (fun d => d.parameters.length) = some 1 := by decide +kernel
theorem wk_X0_mapByte (l : Launch) {D : zk_G} {g : zk_M} {b0 : Nat} {post : Int32 → zk_H → Prop} {this : Nat} {x1 : Int32} {P : zk_H} (hh : wp_X0_mapByte g post this x1 P) : Met l yX0_mapByte (ws_ yX0_mapByte cX0_mapByte 2 (some Jvm.ClassFile.FieldType.int)) ({ frames := 7, cells := 0, slots := 0, locals := 156 } : Room) (va_Pc [.ref this, .int (x1)] (zk_pre D g b0 P)) (va_Qi post (zk_B D b0) (zk_A b0)) 0 0 (zk_A b0) := by
  refine zk_enter "LandFolio" "mapByte" rfl rfl (plainFor_of_name (by decide)) [.ref this, .int (x1)] (Nat.le_of_ble_eq_true rfl) ?_
  intro p e s m args below meth c X
  refine zk_at0 (L' := [(0, va_rf (some this)), (1, .int (x1))]) (rfl) ?_
  have h := hh
  unfold wp_X0_mapByte at h
  refine zv_aload_n X 0 dX0_mapByte_0 rfl ?_
  refine zv_cq ((zr_Vl X (As := []) (rest := []) h (fun a h => wk_X0_map l h) (zk_l1 ⟨_, rfl, cwV 0 X.hts (lw_V q1887 q1889 qs52 q102 q1890) rfl rfl rfl ⟨rfl, md_X0_map⟩ ⟨Nat.le_of_ble_eq_true rfl, Nat.le_of_ble_eq_true rfl⟩⟩) rfl rfl (zk_rs (Nat.le_of_ble_eq_true rfl)) dX0_mapByte_1 ⟨by first | exact Nat.le_of_ble_eq_true rfl | omega | (dsimp only; omega), by first | exact Nat.le_of_ble_eq_true rfl | omega | (dsimp only; omega)⟩)) (fun v1 P1 h => ?_)
  refine zv_iload_n X 1 dX0_mapByte_4 rfl ?_
  refine zv_ciR ((zr_S X (As := [va_rf (v1), .int (x1)]) (rest := []) (wk_X0_byteOf l h) (va_cwS 2 X.hts (lw_S q1899 q1900 q102 q1901) rfl rfl rfl md_X0_byteOf ⟨Nat.le_of_ble_eq_true rfl, Nat.le_of_ble_eq_true rfl⟩) rfl rfl (zk_rs (Nat.le_of_ble_eq_true rfl)) dX0_mapByte_5 ⟨by first | exact Nat.le_of_ble_eq_true rfl | omega | (dsimp only; omega), by first | exact Nat.le_of_ble_eq_true rfl | omega | (dsimp only; omega)⟩)) (fun v5 h => ?_)
  exact zv_iret X rfl (by first | exact Nat.le_of_ble_eq_true rfl | omega | (dsimp only; omega)) (by first | exact Nat.le_of_ble_eq_true rfl | omega | (dsimp only; omega)) dX0_mapByte_8 h
theorem kj_X0_extract_239 {p : Program} {l : Launch} {e : Env} {s : State} {m : MethodId} {args : Array Value} {below : List Frame} {meth : Method} {c : Code} {D : zk_G} {g : zk_M} {b0 : Nat} (X : zk_X p s m args meth c D g b0 cX0_extract 8 "LandFolio" "extract" (some (Jvm.ClassFile.FieldType.object "java/lang/StringBuilder"))) {post : Option Nat → zk_H → Prop} {K105 : zk_H → Nat → Nat → Prop} {a0 : Option Nat} {a2 : Option Nat} {a4 : Option Nat} {P : zk_H} {k0 n0 k n c0 c1 : Nat} (hK105 : ∀  (U : zk_H) (k n d0 d1 : Nat), d0 + k ≤ k0 → d1 + n ≤ n0 → K105  U k n → zV p l e ({ frames := 7, cells := k0, slots := n0, locals := 151 } : Room) s m args below meth c D b0 8 (d0) (d1) (MQ below (va_Qq post (zk_B D b0) (zk_A b0)) args s k0 n0 (zk_A b0)) U 105 [(0, va_rf (a0)), (2, va_rf (a2)), (4, va_rf (a4))] []) (hc0 : c0 + k ≤ k0) (hc1 : c1 + n ≤ n0) (hh : wj_X0_extract_239 g post K105 a0 a2 a4 P k n) : zV p l e ({ frames := 7, cells := k0, slots := n0, locals := 151 } : Room) s m args below meth c D b0 8 (c0) (c1) (MQ below (va_Qq post (zk_B D b0) (zk_A b0)) args s k0 n0 (zk_A b0)) P 239 [(0, va_rf (a0)), (2, va_rf (a2)), (4, va_rf (a4))] [] := by
  have h := hh
  unfold wj_X0_extract_239 at h
  refine zv_goto X (tgt := 105) dX0_extract_239 (by decide) ?_
  exact hK105 _ _ _ _ _ (by omega) (by omega) h
theorem kb_X0_extract_105 {p : Program} {l : Launch} {e : Env} {s : State} {m : MethodId} {args : Array Value} {below : List Frame} {meth : Method} {c : Code} {D : zk_G} {g : zk_M} {b0 : Nat} (X : zk_X p s m args meth c D g b0 cX0_extract 8 "LandFolio" "extract" (some (Jvm.ClassFile.FieldType.object "java/lang/StringBuilder"))) {post : Option Nat → zk_H → Prop}  {K105 : zk_H → Nat → Nat → Prop} {a0 : Option Nat} {a2 : Option Nat} {a4 : Option Nat} {P : zk_H} {k0 n0 k n c0 c1 : Nat}  (hK105 : ∀  (U : zk_H) (k n d0 d1 : Nat), d0 + k ≤ k0 → d1 + n ≤ n0 → K105  U k n → zV p l e ({ frames := 7, cells := k0, slots := n0, locals := 151 } : Room) s m args below meth c D b0 8 (d0) (d1) (MQ below (va_Qq post (zk_B D b0) (zk_A b0)) args s k0 n0 (zk_A b0)) U 105 [(0, va_rf (a0)), (2, va_rf (a2)), (4, va_rf (a4))] []) (hc0 : c0 + k ≤ k0) (hc1 : c1 + n ≤ n0) (hh : wb_X0_extract_105 g post a0 a2 a4 K105 P k n) : zV p l e ({ frames := 7, cells := k0, slots := n0, locals := 151 } : Room) s m args below meth c D b0 8 (c0) (c1) (MQ below (va_Qq post (zk_B D b0) (zk_A b0)) args s k0 n0 (zk_A b0)) P 105 [(0, va_rf (a0)), (2, va_rf (a2)), (4, va_rf (a4))] [] := by
  have h := hh
  unfold wb_X0_extract_105 at h
  refine zv_aload X 2 dX0_extract_105 rfl ?_
  refine zv_ciR5 ((zr_Fl X (As := []) (rest := []) h (fun a h => wk_X13_hasNext l h) (zk_l1 ⟨_, rfl, va_cwF 0 X.hts (zk_wsF q1666 q1670 q1672 q137 q1674) rfl rfl rfl (X.fw (i := 1) rfl) ⟨by decide, by decide, md_X13_hasNext.2.2⟩ ⟨Nat.le_of_ble_eq_true rfl, Nat.le_of_ble_eq_true rfl⟩⟩) rfl rfl (zk_rs (Nat.le_of_ble_eq_true rfl)) dX0_extract_107 ⟨by dsimp only; omega, by dsimp only; omega⟩)) (fun v107 h => ?_)
  refine zv_if_eq X (tgt := 242) dX0_extract_112 (by decide) h (fun h => ?_) (fun h => ?_)
  · refine zv_aload_n X 1 dX0_extract_242 rfl ?_
    exact zv_aret X rfl (Or.inl ⟨_, rfl⟩) (by omega) (by omega) dX0_extract_243 h
  · refine zv_aload X 2 dX0_extract_115 rfl ?_
    refine zv_cq5 ((zr_Fl X (As := []) (rest := []) h (fun a h => wk_X13_next l h) (zk_l1 ⟨_, rfl, va_cwF 0 X.hts (zk_wsF q1676 q1679 q1681 q137 q1683) rfl rfl rfl (X.fw (i := 2) rfl) ⟨by decide, by decide, md_X13_next.2.2⟩ ⟨Nat.le_of_ble_eq_true rfl, Nat.le_of_ble_eq_true rfl⟩⟩) rfl rfl (zk_rs (Nat.le_of_ble_eq_true rfl)) dX0_extract_117 ⟨by dsimp only; omega, by dsimp only; omega⟩)) (fun v117 P117 h => ?_)
    refine zv_cast X zk_cs1 q1711 dX0_extract_122 h (fun h => ?_)
    refine zv_astore X (L' := [(5, va_rf (v117)), (0, va_rf (a0)), (2, va_rf (a2)), (4, va_rf (a4))]) dX0_extract_125 (by decide) (by simp [zk_s1, zk_s2, zk_rc, zk_ic, zk_jc]) ?_
    refine zv_aload X 0 dX0_extract_127 rfl ?_
    refine zv_inst X zk_cs7 (zk_l1 ⟨_, rfl, X.nc (i := 1) rfl⟩) q1470 dX0_extract_129 h (fun v129 h => ?_)
    refine zv_if_eq X (tgt := 191) dX0_extract_132 (by decide) h (fun h => ?_) (fun h => ?_)
    · refine zv_aload X 0 dX0_extract_191 rfl ?_
      refine zv_inst X zk_cs6 (zk_l1 ⟨_, rfl, X.nc (i := 0) rfl⟩) q1486 dX0_extract_193 h (fun v193 h => ?_)
      refine zv_if_eq X (tgt := 239) dX0_extract_196 (by decide) h (fun h => ?_) (fun h => ?_)
      · refine zv_sub (L' := [(0, va_rf (a0)), (2, va_rf (a2)), (4, va_rf (a4))]) [1, 2, 3] rfl ?_
        exact kj_X0_extract_239 X hK105 (by omega) (by omega) h
      · refine zv_aload X 0 dX0_extract_199 rfl ?_
        refine zv_cast X zk_cs6 q1486 dX0_extract_201 h (fun h => ?_)
        refine zv_astore X (L' := [(7, va_rf (v117)), (5, va_rf (v117)), (0, va_rf (a0)), (2, va_rf (a2)), (4, va_rf (a4))]) dX0_extract_204 (by decide) rfl ?_
        refine zv_aload_n X 3 dX0_extract_206 rfl ?_
        refine zv_bipush X (v := 61) dX0_extract_207 rfl ?_
        obtain ⟨k209, n209, f2091, f2092, h⟩ := h
        refine zv_cq ((zr_Vl X (As := [.int (61)]) (rest := []) h (fun a h => wk_J8_append l h) (zk_l1 ⟨_, rfl, cwV 1 X.hts (lw_V q1314 q789 q790 q117 q791) rfl rfl rfl ⟨rfl, md_J8_append⟩ ⟨Nat.le_of_ble_eq_true rfl, Nat.le_of_ble_eq_true rfl⟩⟩) rfl rfl (zk_rs (Nat.le_of_ble_eq_true rfl)) dX0_extract_209 ⟨by dsimp only; omega, by dsimp only; omega⟩)) (fun v209 P209 h => ?_)
        refine zv_aload X 0 dX0_extract_212 rfl ?_
        refine zv_getf_i X fo_q632 dX0_extract_214 h (fun v214 h => ?_)
        obtain ⟨k217, n217, f2171, f2172, h⟩ := h
        refine zv_cq ((zr_Vl X (As := [.int (v214)]) (rest := []) h (fun a h => wk_J8_append_3 l h) (zk_l1 ⟨_, rfl, cwV 1 X.hts (lw_V q1959 q1960 q1961 q117 q1962) rfl rfl rfl ⟨rfl, md_J8_append_3⟩ ⟨Nat.le_of_ble_eq_true rfl, Nat.le_of_ble_eq_true rfl⟩⟩) rfl rfl (zk_rs (Nat.le_of_ble_eq_true rfl)) dX0_extract_217 ⟨by dsimp only; omega, by dsimp only; omega⟩)) (fun v217 P217 h => ?_)
        refine zv_bipush X (v := 44) dX0_extract_220 rfl ?_
        obtain ⟨k222, n222, f2221, f2222, h⟩ := h
        refine zv_cq ((zr_Vl X (As := [.int (44)]) (rest := []) h (fun a h => wk_J8_append l h) (zk_l1 ⟨_, rfl, cwV 1 X.hts (lw_V q1314 q789 q790 q117 q791) rfl rfl rfl ⟨rfl, md_J8_append⟩ ⟨Nat.le_of_ble_eq_true rfl, Nat.le_of_ble_eq_true rfl⟩⟩) rfl rfl (zk_rs (Nat.le_of_ble_eq_true rfl)) dX0_extract_222 ⟨by dsimp only; omega, by dsimp only; omega⟩)) (fun v222 P222 h => ?_)
        refine zv_aload X 0 dX0_extract_225 rfl ?_
        refine zv_getf_i X fo_q635 dX0_extract_227 h (fun v227 h => ?_)
        obtain ⟨k230, n230, f2301, f2302, h⟩ := h
        refine zv_cq ((zr_Vl X (As := [.int (v227)]) (rest := []) h (fun a h => wk_J8_append_3 l h) (zk_l1 ⟨_, rfl, cwV 1 X.hts (lw_V q1959 q1960 q1961 q117 q1962) rfl rfl rfl ⟨rfl, md_J8_append_3⟩ ⟨Nat.le_of_ble_eq_true rfl, Nat.le_of_ble_eq_true rfl⟩⟩) rfl rfl (zk_rs (Nat.le_of_ble_eq_true rfl)) dX0_extract_230 ⟨by dsimp only; omega, by dsimp only; omega⟩)) (fun v230 P230 h => ?_)
        refine zv_bipush X (v := 10) dX0_extract_233 rfl ?_
        obtain ⟨k235, n235, f2351, f2352, h⟩ := h
        refine zv_cq ((zr_Vl X (As := [.int (10)]) (rest := []) h (fun a h => wk_J8_append l h) (zk_l1 ⟨_, rfl, cwV 1 X.hts (lw_V q1314 q789 q790 q117 q791) rfl rfl rfl ⟨rfl, md_J8_append⟩ ⟨Nat.le_of_ble_eq_true rfl, Nat.le_of_ble_eq_true rfl⟩⟩) rfl rfl (zk_rs (Nat.le_of_ble_eq_true rfl)) dX0_extract_235 ⟨by dsimp only; omega, by dsimp only; omega⟩)) (fun v235 P235 h => ?_)
        refine zv_pop X dX0_extract_238 (zk_rc _) ?_
        refine zv_sub (L' := [(0, va_rf (a0)), (2, va_rf (a2)), (4, va_rf (a4))]) [2, 3, 4] rfl ?_
        exact kj_X0_extract_239 X hK105 (by omega) (by omega) h
    · refine zv_aload X 0 dX0_extract_135 rfl ?_
      refine zv_cast X zk_cs7 q1470 dX0_extract_137 h (fun h => ?_)
      refine zv_astore X (L' := [(6, va_rf (v117)), (5, va_rf (v117)), (0, va_rf (a0)), (2, va_rf (a2)), (4, va_rf (a4))]) dX0_extract_140 (by decide) (by simp [zk_s1, zk_s2, zk_rc, zk_ic, zk_jc]) ?_
      refine zv_aload_n X 3 dX0_extract_142 rfl ?_
      refine zv_bipush X (v := 36) dX0_extract_143 rfl ?_
      obtain ⟨k145, n145, f1451, f1452, h⟩ := h
      refine zv_cq ((zr_Vl X (As := [.int (36)]) (rest := []) h (fun a h => wk_J8_append l h) (zk_l1 ⟨_, rfl, cwV 1 X.hts (lw_V q1314 q789 q790 q117 q791) rfl rfl rfl ⟨rfl, md_J8_append⟩ ⟨Nat.le_of_ble_eq_true rfl, Nat.le_of_ble_eq_true rfl⟩⟩) rfl rfl (zk_rs (Nat.le_of_ble_eq_true rfl)) dX0_extract_145 ⟨by dsimp only; omega, by dsimp only; omega⟩)) (fun v145 P145 h => ?_)
      refine zv_aload X 0 dX0_extract_148 rfl ?_
      refine zv_getf_i X fo_q591 dX0_extract_150 h (fun v150 h => ?_)
      obtain ⟨k153, n153, f1531, f1532, h⟩ := h
      refine zv_cq ((zr_Vl X (As := [.int (v150)]) (rest := []) h (fun a h => wk_J8_append_3 l h) (zk_l1 ⟨_, rfl, cwV 1 X.hts (lw_V q1959 q1960 q1961 q117 q1962) rfl rfl rfl ⟨rfl, md_J8_append_3⟩ ⟨Nat.le_of_ble_eq_true rfl, Nat.le_of_ble_eq_true rfl⟩⟩) rfl rfl (zk_rs (Nat.le_of_ble_eq_true rfl)) dX0_extract_153 ⟨by dsimp only; omega, by dsimp only; omega⟩)) (fun v153 P153 h => ?_)
      refine zv_bipush X (v := 32) dX0_extract_156 rfl ?_
      obtain ⟨k158, n158, f1581, f1582, h⟩ := h
      refine zv_cq ((zr_Vl X (As := [.int (32)]) (rest := []) h (fun a h => wk_J8_append l h) (zk_l1 ⟨_, rfl, cwV 1 X.hts (lw_V q1314 q789 q790 q117 q791) rfl rfl rfl ⟨rfl, md_J8_append⟩ ⟨Nat.le_of_ble_eq_true rfl, Nat.le_of_ble_eq_true rfl⟩⟩) rfl rfl (zk_rs (Nat.le_of_ble_eq_true rfl)) dX0_extract_158 ⟨by dsimp only; omega, by dsimp only; omega⟩)) (fun v158 P158 h => ?_)
      refine zv_aload_n X 2 dX0_extract_161 rfl ?_
      refine zv_getf_r X fo_q402 dX0_extract_162 h (fun v162 h => ?_)
      refine zv_getf_r X fo_q192 dX0_extract_165 h (fun v165 h => ?_)
      refine zv_aload X 0 dX0_extract_168 rfl ?_
      refine zv_getf_i X fo_q588 dX0_extract_170 h (fun v170 h => ?_)
      refine zv_cqR ((zr_Vl X (As := [.int (v170)]) (rest := [va_rf (v158)]) h (fun a h => wk_J2_get l h) (zk_l1 ⟨_, rfl, cwV 1 X.hts (lw_V q1771 q506 q507 q106 q508) rfl rfl rfl ⟨rfl, md_J2_get⟩ ⟨Nat.le_of_ble_eq_true rfl, Nat.le_of_ble_eq_true rfl⟩⟩) rfl rfl (zk_rs (Nat.le_of_ble_eq_true rfl)) dX0_extract_173 ⟨by dsimp only; omega, by dsimp only; omega⟩)) (fun v173 h => ?_)
      refine zv_cast X zk_cs3 q1355 dX0_extract_176 h (fun h => ?_)
      obtain ⟨k179, n179, f1791, f1792, h⟩ := h
      refine zv_cq ((zr_Vl X (As := [va_rf (v173)]) (rest := []) h (fun a h => wk_J8_append_2 l h) (zk_l1 ⟨_, rfl, cwV 1 X.hts (lw_V q1920 q1921 q1922 q117 q1923) rfl rfl rfl ⟨rfl, md_J8_append_2⟩ ⟨Nat.le_of_ble_eq_true rfl, Nat.le_of_ble_eq_true rfl⟩⟩) rfl rfl (zk_rs (Nat.le_of_ble_eq_true rfl)) dX0_extract_179 ⟨by dsimp only; omega, by dsimp only; omega⟩)) (fun v179 P179 h => ?_)
      refine zv_bipush X (v := 10) dX0_extract_182 rfl ?_
      obtain ⟨k184, n184, f1841, f1842, h⟩ := h
      refine zv_cq ((zr_Vl X (As := [.int (10)]) (rest := []) h (fun a h => wk_J8_append l h) (zk_l1 ⟨_, rfl, cwV 1 X.hts (lw_V q1314 q789 q790 q117 q791) rfl rfl rfl ⟨rfl, md_J8_append⟩ ⟨Nat.le_of_ble_eq_true rfl, Nat.le_of_ble_eq_true rfl⟩⟩) rfl rfl (zk_rs (Nat.le_of_ble_eq_true rfl)) dX0_extract_184 ⟨by dsimp only; omega, by dsimp only; omega⟩)) (fun v184 P184 h => ?_)
      refine zv_pop X dX0_extract_187 (zk_rc _) ?_
      refine zv_goto X (tgt := 239) dX0_extract_188 (by decide) ?_
      refine zv_sub (L' := [(0, va_rf (a0)), (2, va_rf (a2)), (4, va_rf (a4))]) [2, 3, 4] rfl ?_
      exact kj_X0_extract_239 X hK105 (by omega) (by omega) h
theorem kl_X0_extract_105 {p : Program} {l : Launch} {e : Env} {s : State} {m : MethodId} {args : Array Value} {below : List Frame} {meth : Method} {c : Code} {D : zk_G} {g : zk_M} {b0 : Nat} (X : zk_X p s m args meth c D g b0 cX0_extract 8 "LandFolio" "extract" (some (Jvm.ClassFile.FieldType.object "java/lang/StringBuilder"))) {post : Option Nat → zk_H → Prop}  {a0 : Option Nat} {a2 : Option Nat} {a4 : Option Nat} {k0 n0 : Nat}   : ∀ (n9 : Nat)  (P : zk_H) (k n c0 c1 : Nat) (hc0 : c0 + k ≤ k0) (hc1 : c1 + n ≤ n0), wl_X0_extract_105 g post a0 a2 a4 n9 P k n → zV p l e ({ frames := 7, cells := k0, slots := n0, locals := 151 } : Room) s m args below meth c D b0 8 (c0) (c1) (MQ below (va_Qq post (zk_B D b0) (zk_A b0)) args s k0 n0 (zk_A b0)) P 105 [(0, va_rf (a0)), (2, va_rf (a2)), (4, va_rf (a4))] [] := by
  intro n9
  induction n9 with
  | zero => intro _ _ _ _ _ _ _ h; exact h.elim
  | succ n9 ih =>
    intro P k n c0 c1 hc0 hc1 h
    exact kb_X0_extract_105 X  (fun u0 u1 u2 u3 u4 e1 e2 h => ih _ _ _ _ _ e1 e2 h) hc0 hc1 h
theorem kj_X0_extract_82 {p : Program} {l : Launch} {e : Env} {s : State} {m : MethodId} {args : Array Value} {below : List Frame} {meth : Method} {c : Code} {D : zk_G} {g : zk_M} {b0 : Nat} (X : zk_X p s m args meth c D g b0 cX0_extract 8 "LandFolio" "extract" (some (Jvm.ClassFile.FieldType.object "java/lang/StringBuilder"))) {post : Option Nat → zk_H → Prop} {K23 : Int32 → zk_H → Nat → Nat → Prop} {a0 : Option Nat} {a1 : Int32} {a2 : Option Nat} {a3 : Option Nat} {a4 : Int32} {P : zk_H} {k0 n0 k n c0 c1 : Nat} (hK23 : ∀ (u4 : Int32) (U : zk_H) (k n d0 d1 : Nat), d0 + k ≤ k0 → d1 + n ≤ n0 → K23 u4 U k n → zV p l e ({ frames := 7, cells := k0, slots := n0, locals := 151 } : Room) s m args below meth c D b0 8 (d0) (d1) (MQ below (va_Qq post (zk_B D b0) (zk_A b0)) args s k0 n0 (zk_A b0)) U 23 [(0, va_rf (a0)), (1, .int (a1)), (2, va_rf (a2)), (3, va_rf (a3)), (4, .int (u4))] []) (hc0 : c0 + k ≤ k0) (hc1 : c1 + n ≤ n0) (hh : wj_X0_extract_82 g post K23 a0 a1 a2 a3 a4 P k n) : zV p l e ({ frames := 7, cells := k0, slots := n0, locals := 151 } : Room) s m args below meth c D b0 8 (c0) (c1) (MQ below (va_Qq post (zk_B D b0) (zk_A b0)) args s k0 n0 (zk_A b0)) P 82 [(0, va_rf (a0)), (1, .int (a1)), (2, va_rf (a2)), (3, va_rf (a3)), (4, .int (a4))] [] := by
  have h := hh
  unfold wj_X0_extract_82 at h
  obtain ⟨v82, e82, h⟩ := zt_e h
  refine zv_iinc X (v := v82) (L' := [(4, .int (v82)), (0, va_rf (a0)), (1, .int (a1)), (2, va_rf (a2)), (3, va_rf (a3))]) 4 dX0_extract_82 rfl e82 (by decide) (by simp [zk_s1, zk_rc, zk_ic, zk_jc]) ?_
  refine zv_goto X (tgt := 23) dX0_extract_85 (by decide) ?_
  refine zv_sub (L' := [(0, va_rf (a0)), (1, .int (a1)), (2, va_rf (a2)), (3, va_rf (a3)), (4, .int (v82))]) [1, 2, 3, 4, 0] rfl ?_
  exact hK23 _ _ _ _ _ _ (by omega) (by omega) h
theorem kb_X0_extract_23 {p : Program} {l : Launch} {e : Env} {s : State} {m : MethodId} {args : Array Value} {below : List Frame} {meth : Method} {c : Code} {D : zk_G} {g : zk_M} {b0 : Nat} (X : zk_X p s m args meth c D g b0 cX0_extract 8 "LandFolio" "extract" (some (Jvm.ClassFile.FieldType.object "java/lang/StringBuilder"))) {post : Option Nat → zk_H → Prop}  {K23 : Int32 → zk_H → Nat → Nat → Prop} {a0 : Option Nat} {a1 : Int32} {a2 : Option Nat} {a3 : Option Nat} {a4 : Int32} {P : zk_H} {k0 n0 k n c0 c1 : Nat}  (hK23 : ∀ (u4 : Int32) (U : zk_H) (k n d0 d1 : Nat), d0 + k ≤ k0 → d1 + n ≤ n0 → K23 u4 U k n → zV p l e ({ frames := 7, cells := k0, slots := n0, locals := 151 } : Room) s m args below meth c D b0 8 (d0) (d1) (MQ below (va_Qq post (zk_B D b0) (zk_A b0)) args s k0 n0 (zk_A b0)) U 23 [(0, va_rf (a0)), (1, .int (a1)), (2, va_rf (a2)), (3, va_rf (a3)), (4, .int (u4))] []) (hc0 : c0 + k ≤ k0) (hc1 : c1 + n ≤ n0) (hh : wb_X0_extract_23 g post a0 a1 a2 a3 K23 a4 P k n) : zV p l e ({ frames := 7, cells := k0, slots := n0, locals := 151 } : Room) s m args below meth c D b0 8 (c0) (c1) (MQ below (va_Qq post (zk_B D b0) (zk_A b0)) args s k0 n0 (zk_A b0)) P 23 [(0, va_rf (a0)), (1, .int (a1)), (2, va_rf (a2)), (3, va_rf (a3)), (4, .int (a4))] [] := by
  have h := hh
  unfold wb_X0_extract_23 at h
  refine zv_iload X 4 dX0_extract_23 rfl ?_
  refine zv_aload_n X 0 dX0_extract_25 rfl ?_
  refine zv_getf_r X fo_q402 dX0_extract_26 h (fun v26 h => ?_)
  refine zv_getf_r X fo_q192 dX0_extract_29 h (fun v29 h => ?_)
  refine zv_ciR ((zr_Vl X (As := []) (rest := [.int (a4)]) h (fun a h => wk_J2_size l h) (zk_l1 ⟨_, rfl, cwV 0 X.hts (lw_V q672 q362 q363 q106 q364) rfl rfl rfl ⟨rfl, md_J2_size⟩ ⟨Nat.le_of_ble_eq_true rfl, Nat.le_of_ble_eq_true rfl⟩⟩) rfl rfl (zk_rs (Nat.le_of_ble_eq_true rfl)) dX0_extract_32 ⟨by dsimp only; omega, by dsimp only; omega⟩)) (fun v32 h => ?_)
  refine zv_icmp_ge X (tgt := 88) dX0_extract_35 (by decide) h (fun h => ?_) (fun h => ?_)
  · obtain ⟨f881, f882, h⟩ := h
    refine zv_new X zk_nc10 q1628 (by dsimp only; omega) (by dsimp only; omega) dX0_extract_88 h (fun v88 P88 h => ?_)
    refine zv_dup X dX0_extract_91 (zk_rc _) ?_
    refine zv_aload_n X 0 dX0_extract_92 rfl ?_
    refine zv_getf_r X fo_q402 dX0_extract_93 h (fun v93 h => ?_)
    refine zv_iload_n X 1 dX0_extract_96 rfl ?_
    refine zv_cv ((zr_I X (As := [va_rf (v93), .int (a1)]) (rest := [va_rf (some v88)]) (wk_X12_init l h) (cwI 2 X.hts (lw_meth q1632) rfl rfl rfl (X.w q136) (X.w q1630) (X.w q1631) rfl md_X12_init ⟨Nat.le_of_ble_eq_true rfl, Nat.le_of_ble_eq_true rfl⟩) rfl rfl (zk_rs (Nat.le_of_ble_eq_true rfl)) dX0_extract_97 ⟨by dsimp only; omega, by dsimp only; omega⟩)) (fun P97 h => ?_)
    obtain ⟨f1001, f1002, h⟩ := h
    refine zv_cq ((zr_Vl X (As := []) (rest := []) h (fun a h => wk_X12_iterator l h) (zk_l1 ⟨_, rfl, cwV 0 X.hts (lw_V q1641 q1642 q1643 q136 q1644) rfl rfl rfl ⟨rfl, md_X12_iterator⟩ ⟨Nat.le_of_ble_eq_true rfl, Nat.le_of_ble_eq_true rfl⟩⟩) rfl rfl (zk_rs (Nat.le_of_ble_eq_true rfl)) dX0_extract_100 ⟨by dsimp only; omega, by dsimp only; omega⟩)) (fun v100 P100 h => ?_)
    refine zv_astore X (L' := [(4, va_rf (v100)), (0, va_rf (a0)), (1, .int (a1)), (2, va_rf (a2)), (3, va_rf (a3))]) dX0_extract_103 (by decide) (by simp [zk_s1, zk_s2, zk_rc, zk_ic, zk_jc]) ?_
    refine zv_sub (L' := [(0, va_rf (a0)), (2, va_rf (a2)), (4, va_rf (v100))]) [1, 3, 0] rfl ?_
    obtain ⟨n103, h⟩ := h
    exact kl_X0_extract_105 X  n103 _ _ _ _ _ (by omega) (by omega) h
  · refine zv_aload_n X 3 dX0_extract_38 rfl ?_
    refine zv_iload X 4 dX0_extract_39 rfl ?_
    refine zv_iald X dX0_extract_41 h (fun v41 h => ?_)
    refine zv_if_le X (tgt := 82) dX0_extract_42 (by decide) h (fun h => ?_) (fun h => ?_)
    · exact kj_X0_extract_82 X hK23 (by omega) (by omega) h
    · refine zv_aload_n X 2 dX0_extract_45 rfl ?_
      refine zv_aload_n X 0 dX0_extract_46 rfl ?_
      refine zv_getf_r X fo_q402 dX0_extract_47 h (fun v47 h => ?_)
      refine zv_getf_r X fo_q192 dX0_extract_50 h (fun v50 h => ?_)
      refine zv_iload X 4 dX0_extract_53 rfl ?_
      refine zv_cqR ((zr_Vl X (As := [.int (a4)]) (rest := [va_rf (a2)]) h (fun a h => wk_J2_get l h) (zk_l1 ⟨_, rfl, cwV 1 X.hts (lw_V q1771 q506 q507 q106 q508) rfl rfl rfl ⟨rfl, md_J2_get⟩ ⟨Nat.le_of_ble_eq_true rfl, Nat.le_of_ble_eq_true rfl⟩⟩) rfl rfl (zk_rs (Nat.le_of_ble_eq_true rfl)) dX0_extract_55 ⟨by dsimp only; omega, by dsimp only; omega⟩)) (fun v55 h => ?_)
      refine zv_cast X zk_cs3 q1355 dX0_extract_58 h (fun h => ?_)
      obtain ⟨k61, n61, f611, f612, h⟩ := h
      refine zv_cq ((zr_Vl X (As := [va_rf (v55)]) (rest := []) h (fun a h => wk_J8_append_2 l h) (zk_l1 ⟨_, rfl, cwV 1 X.hts (lw_V q1920 q1921 q1922 q117 q1923) rfl rfl rfl ⟨rfl, md_J8_append_2⟩ ⟨Nat.le_of_ble_eq_true rfl, Nat.le_of_ble_eq_true rfl⟩⟩) rfl rfl (zk_rs (Nat.le_of_ble_eq_true rfl)) dX0_extract_61 ⟨by dsimp only; omega, by dsimp only; omega⟩)) (fun v61 P61 h => ?_)
      refine zv_bipush X (v := 32) dX0_extract_64 rfl ?_
      obtain ⟨k66, n66, f661, f662, h⟩ := h
      refine zv_cq ((zr_Vl X (As := [.int (32)]) (rest := []) h (fun a h => wk_J8_append l h) (zk_l1 ⟨_, rfl, cwV 1 X.hts (lw_V q1314 q789 q790 q117 q791) rfl rfl rfl ⟨rfl, md_J8_append⟩ ⟨Nat.le_of_ble_eq_true rfl, Nat.le_of_ble_eq_true rfl⟩⟩) rfl rfl (zk_rs (Nat.le_of_ble_eq_true rfl)) dX0_extract_66 ⟨by dsimp only; omega, by dsimp only; omega⟩)) (fun v66 P66 h => ?_)
      refine zv_aload_n X 3 dX0_extract_69 rfl ?_
      refine zv_iload X 4 dX0_extract_70 rfl ?_
      refine zv_iald X dX0_extract_72 h (fun v72 h => ?_)
      obtain ⟨k73, n73, f731, f732, h⟩ := h
      refine zv_cq ((zr_Vl X (As := [.int (v72)]) (rest := []) h (fun a h => wk_J8_append_3 l h) (zk_l1 ⟨_, rfl, cwV 1 X.hts (lw_V q1959 q1960 q1961 q117 q1962) rfl rfl rfl ⟨rfl, md_J8_append_3⟩ ⟨Nat.le_of_ble_eq_true rfl, Nat.le_of_ble_eq_true rfl⟩⟩) rfl rfl (zk_rs (Nat.le_of_ble_eq_true rfl)) dX0_extract_73 ⟨by dsimp only; omega, by dsimp only; omega⟩)) (fun v73 P73 h => ?_)
      refine zv_bipush X (v := 10) dX0_extract_76 rfl ?_
      obtain ⟨k78, n78, f781, f782, h⟩ := h
      refine zv_cq ((zr_Vl X (As := [.int (10)]) (rest := []) h (fun a h => wk_J8_append l h) (zk_l1 ⟨_, rfl, cwV 1 X.hts (lw_V q1314 q789 q790 q117 q791) rfl rfl rfl ⟨rfl, md_J8_append⟩ ⟨Nat.le_of_ble_eq_true rfl, Nat.le_of_ble_eq_true rfl⟩⟩) rfl rfl (zk_rs (Nat.le_of_ble_eq_true rfl)) dX0_extract_78 ⟨by dsimp only; omega, by dsimp only; omega⟩)) (fun v78 P78 h => ?_)
      refine zv_pop X dX0_extract_81 (zk_rc _) ?_
      exact kj_X0_extract_82 X hK23 (by omega) (by omega) h
theorem kl_X0_extract_23 {p : Program} {l : Launch} {e : Env} {s : State} {m : MethodId} {args : Array Value} {below : List Frame} {meth : Method} {c : Code} {D : zk_G} {g : zk_M} {b0 : Nat} (X : zk_X p s m args meth c D g b0 cX0_extract 8 "LandFolio" "extract" (some (Jvm.ClassFile.FieldType.object "java/lang/StringBuilder"))) {post : Option Nat → zk_H → Prop}  {a0 : Option Nat} {a1 : Int32} {a2 : Option Nat} {a3 : Option Nat} {k0 n0 : Nat}   : ∀ (n9 : Nat) (a4 : Int32) (P : zk_H) (k n c0 c1 : Nat) (hc0 : c0 + k ≤ k0) (hc1 : c1 + n ≤ n0), wl_X0_extract_23 g post a0 a1 a2 a3 n9 a4 P k n → zV p l e ({ frames := 7, cells := k0, slots := n0, locals := 151 } : Room) s m args below meth c D b0 8 (c0) (c1) (MQ below (va_Qq post (zk_B D b0) (zk_A b0)) args s k0 n0 (zk_A b0)) P 23 [(0, va_rf (a0)), (1, .int (a1)), (2, va_rf (a2)), (3, va_rf (a3)), (4, .int (a4))] [] := by
  intro n9
  induction n9 with
  | zero => intro _ _ _ _ _ _ _ _ h; exact h.elim
  | succ n9 ih =>
    intro a4 P k n c0 c1 hc0 hc1 h
    exact kb_X0_extract_23 X  (fun u0 u1 u2 u3 u4 u5 e1 e2 h => ih _ _ _ _ _ _ e1 e2 h) hc0 hc1 h
theorem md_X0_extract : yX0_extract.cls ≠ "java/lang/invoke/MethodHandle" ∧ yX0_extract.cls ≠ "java/lang/invoke/VarHandle" ∧ (parseMethodDescriptor yX0_extract.desc).map (fun d => d.parameters.length) = some 1 := by decide +kernel
theorem wk_X0_extract (l : Launch) {D : zk_G} {g : zk_M} {b0 : Nat} {post : Option Nat → zk_H → Prop} {this : Nat} {x1 : Int32} {P : zk_H} {k0 n0 : Nat} (hh : wp_X0_extract g post this x1 P k0 n0) : Met l yX0_extract (ws_ yX0_extract cX0_extract 8 (some (Jvm.ClassFile.FieldType.object "java/lang/StringBuilder"))) ({ frames := 7, cells := k0, slots := n0, locals := 151 } : Room) (va_Pc [.ref this, .int (x1)] (zk_pre D g b0 P)) (va_Qq post (zk_B D b0) (zk_A b0)) k0 n0 (zk_A b0) := by
  refine zk_enter "LandFolio" "extract" rfl rfl (plainFor_of_name (by decide)) [.ref this, .int (x1)] (Nat.le_of_ble_eq_true rfl) ?_
  intro p e s m args below meth c X
  refine zk_at0 (L' := [(0, va_rf (some this)), (1, .int (x1))]) (rfl) ?_
  have h := hh
  unfold wp_X0_extract at h
  obtain ⟨f01, f02, h⟩ := h
  refine zv_new X zk_nc14 q1312 (by dsimp only; omega) (by dsimp only; omega) dX0_extract_0 h (fun v0 P0 h => ?_)
  refine zv_dup X dX0_extract_3 (zk_rc _) ?_
  obtain ⟨f41, f42, h⟩ := h
  refine zv_cv ((zr_I X (As := []) (rest := [va_rf (some v0)]) (wk_J8_init l h) (cwI 0 X.hts (lw_meth q754) rfl rfl rfl (X.w q117) (X.w q1313) (X.w q753) rfl md_J8_init ⟨Nat.le_of_ble_eq_true rfl, Nat.le_of_ble_eq_true rfl⟩) rfl rfl (zk_rs (Nat.le_of_ble_eq_true rfl)) dX0_extract_4 ⟨by dsimp only; omega, by dsimp only; omega⟩)) (fun P4 h => ?_)
  refine zv_astore_n X (i := 2) (L' := [(2, va_rf (some v0)), (0, va_rf (some this)), (1, .int (x1))]) dX0_extract_7 rfl (by decide) rfl ?_
  refine zv_aload_n X 1 dX0_extract_8 rfl ?_
  refine zv_getf_r X fo_q402 dX0_extract_9 h (fun v9 h => ?_)
  refine zv_iload_n X 2 dX0_extract_12 rfl ?_
  refine zv_cqR ((zr_Vl X (As := [.int (x1)]) (rest := []) h (fun a h => wk_X1_deed l h) (zk_l1 ⟨_, rfl, cwV 1 X.hts (lw_V q1460 q1190 q1191 q103 q1192) rfl rfl rfl ⟨rfl, md_X1_deed⟩ ⟨Nat.le_of_ble_eq_true rfl, Nat.le_of_ble_eq_true rfl⟩⟩) rfl rfl (zk_rs (Nat.le_of_ble_eq_true rfl)) dX0_extract_13 ⟨by dsimp only; omega, by dsimp only; omega⟩)) (fun v13 h => ?_)
  refine zv_getf_r X fo_q376 dX0_extract_16 h (fun v16 h => ?_)
  refine zv_astore_n X (i := 3) (L' := [(3, va_rf (v16)), (2, va_rf (some v0)), (0, va_rf (some this)), (1, .int (x1))]) dX0_extract_19 rfl (by decide) rfl ?_
  refine zv_iconst X (v := 0) dX0_extract_20 rfl ?_
  refine zv_istore X (L' := [(4, .int (0)), (3, va_rf (v16)), (2, va_rf (some v0)), (0, va_rf (some this)), (1, .int (x1))]) dX0_extract_21 (by decide) (by simp [zk_s1, zk_s2, zk_rc, zk_ic, zk_jc]) ?_
  refine zv_sub (L' := [(0, va_rf (some this)), (1, .int (x1)), (2, va_rf (some v0)), (3, va_rf (v16)), (4, .int (0))]) [3, 4, 2, 1, 0] rfl ?_
  obtain ⟨n21, h⟩ := h
  exact kl_X0_extract_23 X  n21 _ _ _ _ _ _ (by omega) (by omega) h
theorem md_X0_extractLength : yX0_extractLength.cls ≠ "java/lang/invoke/MethodHandle" ∧ yX0_extractLength.cls ≠ "java/lang/invoke/VarHandle" ∧ (parseMethodDescriptor yX0_extractLength.desc).map (fun d => d.parameters.length) = some 1 := by decide +kernel
theorem wk_X0_extractLength (l : Launch) {D : zk_G} {g : zk_M} {b0 : Nat} {post : Int32 → zk_H → Prop} {this : Nat} {x1 : Int32} {P : zk_H} (hh : wp_X0_extractLength g post this x1 P) : Met l yX0_extractLength (ws_ yX0_extractLength cX0_extractLength 2 (some Jvm.ClassFile.FieldType.int)) ({ frames := 8, cells := 0, slots := 0, locals := 178 } : Room) (va_Pc [.ref this, .int (x1)] (zk_pre D g b0 P)) (va_Qi post (zk_B D b0) (zk_A b0)) 0 0 (zk_A b0) := by
  refine zk_enter "LandFolio" "extractLength" rfl rfl (plainFor_of_name (by decide)) [.ref this, .int (x1)] (Nat.le_of_ble_eq_true rfl) ?_
  intro p e s m args below meth c X
  refine zk_at0 (L' := [(0, va_rf (some this)), (1, .int (x1))]) (rfl) ?_
  have h := hh
  unfold wp_X0_extractLength at h
  refine zv_aload_n X 0 dX0_extractLength_0 rfl ?_
  refine zv_iload_n X 1 dX0_extractLength_1 rfl ?_
  refine zv_ciR ((zr_Vl X (As := [.int (x1)]) (rest := []) h (fun a h => wk_X0_isParcel l h) (zk_l1 ⟨_, rfl, cwV 1 X.hts (lw_V q1364 q1366 qs33 q102 q1367) rfl rfl rfl ⟨rfl, md_X0_isParcel⟩ ⟨Nat.le_of_ble_eq_true rfl, Nat.le_of_ble_eq_true rfl⟩⟩) rfl rfl (zk_rs (Nat.le_of_ble_eq_true rfl)) dX0_extractLength_2 ⟨by first | exact Nat.le_of_ble_eq_true rfl | omega | (dsimp only; omega), by first | exact Nat.le_of_ble_eq_true rfl | omega | (dsimp only; omega)⟩)) (fun v2 h => ?_)
  refine zv_if_eq X (tgt := 19) dX0_extractLength_5 (by decide) h (fun h => ?_) (fun h => ?_)
  · refine zv_iconst X (v := -1) dX0_extractLength_19 rfl ?_
    exact zv_iret X rfl (by first | exact Nat.le_of_ble_eq_true rfl | omega | (dsimp only; omega)) (by first | exact Nat.le_of_ble_eq_true rfl | omega | (dsimp only; omega)) dX0_extractLength_20 h
  · refine zv_aload_n X 0 dX0_extractLength_8 rfl ?_
    refine zv_iload_n X 1 dX0_extractLength_9 rfl ?_
    refine zv_cq ((zr_Vl X (As := [.int (x1)]) (rest := []) h (fun a h => wk_X0_extract l h) (zk_l1 ⟨_, rfl, cwV 1 X.hts (lw_V q1916 q1918 qs53 q102 q1919) rfl rfl rfl ⟨rfl, md_X0_extract⟩ ⟨Nat.le_of_ble_eq_true rfl, Nat.le_of_ble_eq_true rfl⟩⟩) rfl rfl (zk_rs (Nat.le_of_ble_eq_true rfl)) dX0_extractLength_10 ⟨by first | exact Nat.le_of_ble_eq_true rfl | omega | (dsimp only; omega), by first | exact Nat.le_of_ble_eq_true rfl | omega | (dsimp only; omega)⟩)) (fun v10 P10 h => ?_)
    refine zv_ciR ((zr_Vl X (As := []) (rest := []) h (fun a h => wk_J8_length l h) (zk_l1 ⟨_, rfl, cwV 0 X.hts (lw_V q1894 q782 q783 q117 q784) rfl rfl rfl ⟨rfl, md_J8_length⟩ ⟨Nat.le_of_ble_eq_true rfl, Nat.le_of_ble_eq_true rfl⟩⟩) rfl rfl (zk_rs (Nat.le_of_ble_eq_true rfl)) dX0_extractLength_13 ⟨by first | exact Nat.le_of_ble_eq_true rfl | omega | (dsimp only; omega), by first | exact Nat.le_of_ble_eq_true rfl | omega | (dsimp only; omega)⟩)) (fun v13 h => ?_)
    refine zv_goto X (tgt := 20) dX0_extractLength_16 (by decide) ?_
    exact zv_iret X rfl (by first | exact Nat.le_of_ble_eq_true rfl | omega | (dsimp only; omega)) (by first | exact Nat.le_of_ble_eq_true rfl | omega | (dsimp only; omega)) dX0_extractLength_20 h
theorem md_X0_extractByte : yX0_extractByte.cls ≠ "java/lang/invoke/MethodHandle" ∧ yX0_extractByte.cls ≠ "java/lang/invoke/VarHandle" ∧ (parseMethodDescriptor yX0_extractByte.desc).map (fun d => d.parameters.length) = some 2 := by decide +kernel
theorem wk_X0_extractByte (l : Launch) {D : zk_G} {g : zk_M} {b0 : Nat} {post : Int32 → zk_H → Prop} {this : Nat} {x1 : Int32} {x2 : Int32} {P : zk_H} (hh : wp_X0_extractByte g post this x1 x2 P) : Met l yX0_extractByte (ws_ yX0_extractByte cX0_extractByte 3 (some Jvm.ClassFile.FieldType.int)) ({ frames := 8, cells := 0, slots := 0, locals := 178 } : Room) (va_Pc [.ref this, .int (x1), .int (x2)] (zk_pre D g b0 P)) (va_Qi post (zk_B D b0) (zk_A b0)) 0 0 (zk_A b0) := by
  refine zk_enter "LandFolio" "extractByte" rfl rfl (plainFor_of_name (by decide)) [.ref this, .int (x1), .int (x2)] (Nat.le_of_ble_eq_true rfl) ?_
  intro p e s m args below meth c X
  refine zk_at0 (L' := [(0, va_rf (some this)), (1, .int (x1)), (2, .int (x2))]) (rfl) ?_
  have h := hh
  unfold wp_X0_extractByte at h
  refine zv_aload_n X 0 dX0_extractByte_0 rfl ?_
  refine zv_iload_n X 1 dX0_extractByte_1 rfl ?_
  refine zv_ciR ((zr_Vl X (As := [.int (x1)]) (rest := []) h (fun a h => wk_X0_isParcel l h) (zk_l1 ⟨_, rfl, cwV 1 X.hts (lw_V q1364 q1366 qs33 q102 q1367) rfl rfl rfl ⟨rfl, md_X0_isParcel⟩ ⟨Nat.le_of_ble_eq_true rfl, Nat.le_of_ble_eq_true rfl⟩⟩) rfl rfl (zk_rs (Nat.le_of_ble_eq_true rfl)) dX0_extractByte_2 ⟨by first | exact Nat.le_of_ble_eq_true rfl | omega | (dsimp only; omega), by first | exact Nat.le_of_ble_eq_true rfl | omega | (dsimp only; omega)⟩)) (fun v2 h => ?_)
  refine zv_if_eq X (tgt := 20) dX0_extractByte_5 (by decide) h (fun h => ?_) (fun h => ?_)
  · refine zv_iconst X (v := -1) dX0_extractByte_20 rfl ?_
    exact zv_iret X rfl (by first | exact Nat.le_of_ble_eq_true rfl | omega | (dsimp only; omega)) (by first | exact Nat.le_of_ble_eq_true rfl | omega | (dsimp only; omega)) dX0_extractByte_21 h
  · refine zv_aload_n X 0 dX0_extractByte_8 rfl ?_
    refine zv_iload_n X 1 dX0_extractByte_9 rfl ?_
    refine zv_cq ((zr_Vl X (As := [.int (x1)]) (rest := []) h (fun a h => wk_X0_extract l h) (zk_l1 ⟨_, rfl, cwV 1 X.hts (lw_V q1916 q1918 qs53 q102 q1919) rfl rfl rfl ⟨rfl, md_X0_extract⟩ ⟨Nat.le_of_ble_eq_true rfl, Nat.le_of_ble_eq_true rfl⟩⟩) rfl rfl (zk_rs (Nat.le_of_ble_eq_true rfl)) dX0_extractByte_10 ⟨by first | exact Nat.le_of_ble_eq_true rfl | omega | (dsimp only; omega), by first | exact Nat.le_of_ble_eq_true rfl | omega | (dsimp only; omega)⟩)) (fun v10 P10 h => ?_)
    refine zv_iload_n X 2 dX0_extractByte_13 rfl ?_
    refine zv_ciR ((zr_S X (As := [va_rf (v10), .int (x2)]) (rest := []) (wk_X0_byteOf l h) (va_cwS 2 X.hts (lw_S q1899 q1900 q102 q1901) rfl rfl rfl md_X0_byteOf ⟨Nat.le_of_ble_eq_true rfl, Nat.le_of_ble_eq_true rfl⟩) rfl rfl (zk_rs (Nat.le_of_ble_eq_true rfl)) dX0_extractByte_14 ⟨by first | exact Nat.le_of_ble_eq_true rfl | omega | (dsimp only; omega), by first | exact Nat.le_of_ble_eq_true rfl | omega | (dsimp only; omega)⟩)) (fun v14 h => ?_)
    refine zv_goto X (tgt := 21) dX0_extractByte_17 (by decide) ?_
    exact zv_iret X rfl (by first | exact Nat.le_of_ble_eq_true rfl | omega | (dsimp only; omega)) (by first | exact Nat.le_of_ble_eq_true rfl | omega | (dsimp only; omega)) dX0_extractByte_21 h
theorem md_X5_isKey : yX5_isKey.cls ≠ "java/lang/invoke/MethodHandle" ∧ yX5_isKey.cls ≠ "java/lang/invoke/VarHandle" ∧ (parseMethodDescriptor yX5_isKey.desc).map (fun d => d.parameters.length) = some 1 := by decide +kernel
theorem wk_X5_isKey (l : Launch) {D : zk_G} {g : zk_M} {b0 : Nat} {post : Int32 → Prop} {this : Nat} {x1 : Option Nat} {P : zk_H} (hh : wp_X5_isKey post this x1 P) : Met l yX5_isKey (ws_ yX5_isKey cX5_isKey 2 (some Jvm.ClassFile.FieldType.boolean)) ({ frames := 2, cells := 0, slots := 0, locals := 44 } : Room) (va_Pc [.ref this, va_rf (x1)] (zk_pre D g b0 P)) (va_Qi (fun r u => post r ∧ u = P) (zk_B D b0) (zk_A b0)) 0 0 (zk_A b0) := by
  refine zk_enter "LandFolio$Reader" "isKey" rfl rfl (plainFor_of_name (by decide)) [.ref this, va_rf (x1)] (by cases x1 <;> exact Nat.le_of_ble_eq_true rfl) ?_
  intro p e s m args below meth c X
  refine zk_at0 (L' := [(0, va_rf (some this)), (1, va_rf (x1))]) (by cases x1 <;> rfl) ?_
  have h := hh
  unfold wp_X5_isKey at h
  refine zv_aload_n X 0 dX5_isKey_0 rfl ?_
  refine zv_getf_i X fo_q1009 dX5_isKey_1 h (fun v1 h => ?_)
  refine zv_iconst X (v := 1) dX5_isKey_4 rfl ?_
  refine zv_icmp_ne X (tgt := 23) dX5_isKey_5 (by decide) h (fun h => ?_) (fun h => ?_)
  · refine zv_iconst X (v := 0) dX5_isKey_23 rfl ?_
    exact zv_zret X (ty := .boolean) rfl (by first | exact Nat.le_of_ble_eq_true rfl | omega | (dsimp only; omega)) (by first | exact Nat.le_of_ble_eq_true rfl | omega | (dsimp only; omega)) dX5_isKey_24 ⟨rfl, ⟨h, rfl⟩⟩
  · refine zv_aload_n X 0 dX5_isKey_8 rfl ?_
    refine zv_getf_r X fo_q1010 dX5_isKey_9 h (fun v9 h => ?_)
    refine zv_aload_n X 1 dX5_isKey_12 rfl ?_
    refine zv_ciR ((zr_Vl X (As := [va_rf (x1)]) (rest := []) h (fun a h => wk_J9_equals l h) (zk_l1 ⟨_, rfl, cwV 1 X.hts (lw_V q1037 q978 q979 q118 q980) rfl rfl rfl ⟨rfl, md_J9_equals⟩ ⟨Nat.le_of_ble_eq_true rfl, Nat.le_of_ble_eq_true rfl⟩⟩) rfl rfl (zk_rs (Nat.le_of_ble_eq_true rfl)) dX5_isKey_13 ⟨by first | exact Nat.le_of_ble_eq_true rfl | omega | (dsimp only; omega), by first | exact Nat.le_of_ble_eq_true rfl | omega | (dsimp only; omega)⟩)) (fun v13 h => ?_)
    refine zv_if_eq X (tgt := 23) dX5_isKey_16 (by decide) h (fun h => ?_) (fun h => ?_)
    · refine zv_iconst X (v := 0) dX5_isKey_23 rfl ?_
      exact zv_zret X (ty := .boolean) rfl (by first | exact Nat.le_of_ble_eq_true rfl | omega | (dsimp only; omega)) (by first | exact Nat.le_of_ble_eq_true rfl | omega | (dsimp only; omega)) dX5_isKey_24 ⟨rfl, ⟨h, rfl⟩⟩
    · refine zv_iconst X (v := 1) dX5_isKey_19 rfl ?_
      refine zv_goto X (tgt := 24) dX5_isKey_20 (by decide) ?_
      exact zv_zret X (ty := .boolean) rfl (by first | exact Nat.le_of_ble_eq_true rfl | omega | (dsimp only; omega)) (by first | exact Nat.le_of_ble_eq_true rfl | omega | (dsimp only; omega)) dX5_isKey_24 ⟨rfl, ⟨h, rfl⟩⟩
theorem md_X5_isAt : yX5_isAt.cls ≠ "java/lang/invoke/MethodHandle" ∧ yX5_isAt.cls ≠ "java/lang/invoke/VarHandle" ∧ (parseMethodDescriptor yX5_isAt.desc).map (fun d => d.parameters.length) = some 2 := by decide +kernel
theorem wk_X5_isAt (l : Launch) {D : zk_G} {g : zk_M} {b0 : Nat} {post : Int32 → Prop} {this : Nat} {x1 : Int32} {x2 : Int32} {P : zk_H} (hh : wp_X5_isAt post this x1 x2 P) : Met l yX5_isAt (ws_ yX5_isAt cX5_isAt 3 (some Jvm.ClassFile.FieldType.boolean)) ({ frames := 1, cells := 0, slots := 0, locals := 22 } : Room) (va_Pc [.ref this, .int (x1), .int (x2)] (zk_pre D g b0 P)) (va_Qi (fun r u => post r ∧ u = P) (zk_B D b0) (zk_A b0)) 0 0 (zk_A b0) := by
  refine zk_enter "LandFolio$Reader" "isAt" rfl rfl (plainFor_of_name (by decide)) [.ref this, .int (x1), .int (x2)] (Nat.le_of_ble_eq_true rfl) ?_
  intro p e s m args below meth c X
  refine zk_at0 (L' := [(0, va_rf (some this)), (1, .int (x1)), (2, .int (x2))]) (rfl) ?_
  have h := hh
  unfold wp_X5_isAt at h
  refine zv_aload_n X 0 dX5_isAt_0 rfl ?_
  refine zv_getf_i X fo_q1007 dX5_isAt_1 h (fun v1 h => ?_)
  refine zv_aload_n X 0 dX5_isAt_4 rfl ?_
  refine zv_getf_r X fo_q1012 dX5_isAt_5 h (fun v5 h => ?_)
  refine zv_getf_i X fo_q407 dX5_isAt_8 h (fun v8 h => ?_)
  refine zv_icmp_ge X (tgt := 38) dX5_isAt_11 (by decide) h (fun h => ?_) (fun h => ?_)
  · refine zv_iconst X (v := 0) dX5_isAt_38 rfl ?_
    exact zv_zret X (ty := .boolean) rfl (by first | exact Nat.le_of_ble_eq_true rfl | omega | (dsimp only; omega)) (by first | exact Nat.le_of_ble_eq_true rfl | omega | (dsimp only; omega)) dX5_isAt_39 ⟨rfl, ⟨h, rfl⟩⟩
  · refine zv_aload_n X 0 dX5_isAt_14 rfl ?_
    refine zv_getf_r X fo_q1012 dX5_isAt_15 h (fun v15 h => ?_)
    refine zv_getf_r X fo_q405 dX5_isAt_18 h (fun v18 h => ?_)
    refine zv_aload_n X 0 dX5_isAt_21 rfl ?_
    refine zv_getf_i X fo_q1007 dX5_isAt_22 h (fun v22 h => ?_)
    refine zv_bald X dX5_isAt_25 h (fun v25 h => ?_)
    refine zv_iload_n X 1 dX5_isAt_26 rfl ?_
    refine zv_iload_n X 2 dX5_isAt_27 rfl ?_
    refine zv_ciR ((zr_SN X (As := [.int (v25), .int (x1), .int (x2)]) (rest := []) (wk_X0_isIn l h) ⟨zk_cwN X 3 q745 (lw_meth q464) q102 md_X0_isIn ⟨Nat.le_of_ble_eq_true rfl, Nat.le_of_ble_eq_true rfl⟩, q463⟩ rfl rfl (zk_rs (Nat.le_of_ble_eq_true rfl)) dX5_isAt_28 ⟨by first | exact Nat.le_of_ble_eq_true rfl | omega | (dsimp only; omega), by first | exact Nat.le_of_ble_eq_true rfl | omega | (dsimp only; omega)⟩)) (fun v28 h => ?_)
    refine zv_if_eq X (tgt := 38) dX5_isAt_31 (by decide) h (fun h => ?_) (fun h => ?_)
    · refine zv_iconst X (v := 0) dX5_isAt_38 rfl ?_
      exact zv_zret X (ty := .boolean) rfl (by first | exact Nat.le_of_ble_eq_true rfl | omega | (dsimp only; omega)) (by first | exact Nat.le_of_ble_eq_true rfl | omega | (dsimp only; omega)) dX5_isAt_39 ⟨rfl, ⟨h, rfl⟩⟩
    · refine zv_iconst X (v := 1) dX5_isAt_34 rfl ?_
      refine zv_goto X (tgt := 39) dX5_isAt_35 (by decide) ?_
      exact zv_zret X (ty := .boolean) rfl (by first | exact Nat.le_of_ble_eq_true rfl | omega | (dsimp only; omega)) (by first | exact Nat.le_of_ble_eq_true rfl | omega | (dsimp only; omega)) dX5_isAt_39 ⟨rfl, ⟨h, rfl⟩⟩
