/-! walks, printed by gen/run.py -/
theorem kj_X1_splits_177 {p : Program} {l : Launch} {e : Env} {s : State} {m : MethodId} {args : Array Value} {below : List Frame} {meth : Method} {c : Code} {D : zk_G} {g : zk_M} {b0 : Nat} (X : zk_X p s m args meth c D g b0 cX1_splits 14 "LandFolio$Folio" "splits" (some Jvm.ClassFile.FieldType.int)) {post : Int32 → zk_H → Prop}  {a0 : Option Nat} {a1 : Int32} {a5 : Option Nat} {a8 : Int32} {a9 : Int32} {a10 : Int32} {a11 : Int32} {s0 : Int32} {P : zk_H}    (hh : wj_X1_splits_177 g post a0 a1 a5 a8 a9 a10 a11 s0 P) : zV p l e ({ frames := 8, cells := 10, slots := 420, locals := 193 } : Room) s m args below meth c D b0 14 (5) (210) (MQ below (va_Qi post (zk_B D b0) (zk_A b0)) args s 10 420 (zk_A b0)) P 177 [(0, va_rf (a0)), (1, .int (a1)), (5, va_rf (a5)), (8, .int (a8)), (9, .int (a9)), (10, .int (a10)), (11, .int (a11))] [.int (s0)] := by
  have h := hh
  unfold wj_X1_splits_177 at h
  refine zv_istore X (L' := [(12, .int (s0)), (0, va_rf (a0)), (1, .int (a1)), (5, va_rf (a5)), (8, .int (a8)), (9, .int (a9)), (10, .int (a10)), (11, .int (a11))]) dX1_splits_177 (by decide) rfl ?_
  refine zv_aload_n X 1 dX1_splits_179 rfl ?_
  refine zv_new X zk_nc2 q300 (by first | exact Nat.le_of_ble_eq_true rfl | omega | (dsimp only; omega)) (by first | exact Nat.le_of_ble_eq_true rfl | omega | (dsimp only; omega)) dX1_splits_180 h (fun v180 P180 h => ?_)
  refine zv_dup X dX1_splits_183 (zk_rc _) ?_
  refine zv_iload X 5 dX1_splits_184 rfl ?_
  refine zv_iload X 6 dX1_splits_186 rfl ?_
  refine zv_iload X 7 dX1_splits_188 rfl ?_
  refine zv_iload X 0 dX1_splits_190 rfl ?_
  refine zv_aload_n X 1 dX1_splits_192 rfl ?_
  refine zv_getf_i X fo_q189 dX1_splits_193 h (fun v193 h => ?_)
  refine zv_iload_n X 2 dX1_splits_196 rfl ?_
  refine zv_bipush X (v := -2) dX1_splits_197 rfl ?_
  refine zv_cv ((zr_I X (As := [.int (a9), .int (a10), .int (a11), .int (s0), .int (v193), .int (a1), .int (-2)]) (rest := [va_rf (some v180), va_rf (a0)]) (wk_X2_init l h) (cwI 7 X.hts (lw_meth q304) rfl rfl rfl (X.w q111) (X.w q302) (X.w q303) rfl md_X2_init ⟨Nat.le_of_ble_eq_true rfl, Nat.le_of_ble_eq_true rfl⟩) rfl rfl (zk_rs (Nat.le_of_ble_eq_true rfl)) dX1_splits_199 ⟨by first | exact Nat.le_of_ble_eq_true rfl | omega | (dsimp only; omega), by first | exact Nat.le_of_ble_eq_true rfl | omega | (dsimp only; omega)⟩)) (fun P199 h => ?_)
  refine zv_aload X 3 dX1_splits_202 rfl ?_
  refine zv_clone X (ty := .int) (by decide +kernel) (by decide) q1197 q1198 q1199 (zk_nwm q1200 rfl) ⟨by first | decide | (dsimp only; decide), by first | decide | (dsimp only; decide)⟩ (zk_rs (Nat.le_of_ble_eq_true rfl)) (by first | exact Nat.le_of_ble_eq_true rfl | omega | (dsimp only; omega)) (by first | exact Nat.le_of_ble_eq_true rfl | omega | (dsimp only; omega)) dX1_splits_204 h (fun v204 P204 h => ?_)
  refine zv_castA X (ty := .int) (by decide +kernel) q1201 dX1_splits_207 h (fun h => ?_)
  refine zv_ci ((zr_Vl X (As := [va_rf (some v180), va_rf (some v204)]) (rest := []) h (fun a h => wk_X1_comes l h) (zk_l1 ⟨_, rfl, cwV 2 X.hts (lw_V q354 q355 q356 q103 q357) rfl rfl rfl ⟨rfl, md_X1_comes⟩ ⟨Nat.le_of_ble_eq_true rfl, Nat.le_of_ble_eq_true rfl⟩⟩) rfl rfl (zk_rs (Nat.le_of_ble_eq_true rfl)) dX1_splits_210 ⟨by first | exact Nat.le_of_ble_eq_true rfl | omega | (dsimp only; omega), by first | exact Nat.le_of_ble_eq_true rfl | omega | (dsimp only; omega)⟩)) (fun v210 P210 h => ?_)
  refine zv_istore X (L' := [(13, .int (v210)), (12, .int (s0)), (0, va_rf (a0)), (1, .int (a1)), (5, va_rf (a5)), (8, .int (a8)), (9, .int (a9)), (10, .int (a10)), (11, .int (a11))]) dX1_splits_213 (by decide) rfl ?_
  refine zv_aload_n X 2 dX1_splits_215 rfl ?_
  refine zv_iload_n X 3 dX1_splits_216 rfl ?_
  refine zv_iload X 5 dX1_splits_217 rfl ?_
  refine zv_cv ((zr_Vl X (As := [.int (a1), .int (a8)]) (rest := []) h (fun a h => wk_X1_moves l h) (zk_l1 ⟨_, rfl, cwV 2 X.hts (lw_V q1202 q1204 qs21 q103 q1205) rfl rfl rfl ⟨rfl, md_X1_moves⟩ ⟨Nat.le_of_ble_eq_true rfl, Nat.le_of_ble_eq_true rfl⟩⟩) rfl rfl (zk_rs (Nat.le_of_ble_eq_true rfl)) dX1_splits_219 ⟨by first | exact Nat.le_of_ble_eq_true rfl | omega | (dsimp only; omega), by first | exact Nat.le_of_ble_eq_true rfl | omega | (dsimp only; omega)⟩)) (fun P219 h => ?_)
  refine zv_aload_n X 2 dX1_splits_222 rfl ?_
  refine zv_iload_n X 3 dX1_splits_223 rfl ?_
  refine zv_iload X 0 dX1_splits_224 rfl ?_
  refine zv_cv ((zr_Vl X (As := [.int (a1), .int (v210)]) (rest := []) h (fun a h => wk_X1_moves l h) (zk_l1 ⟨_, rfl, cwV 2 X.hts (lw_V q1202 q1204 qs21 q103 q1205) rfl rfl rfl ⟨rfl, md_X1_moves⟩ ⟨Nat.le_of_ble_eq_true rfl, Nat.le_of_ble_eq_true rfl⟩⟩) rfl rfl (zk_rs (Nat.le_of_ble_eq_true rfl)) dX1_splits_226 ⟨by first | exact Nat.le_of_ble_eq_true rfl | omega | (dsimp only; omega), by first | exact Nat.le_of_ble_eq_true rfl | omega | (dsimp only; omega)⟩)) (fun P226 h => ?_)
  refine zv_aload_n X 2 dX1_splits_229 rfl ?_
  refine zv_iload_n X 3 dX1_splits_230 rfl ?_
  refine zv_cv ((zr_Vl X (As := [.int (a1)]) (rest := []) h (fun a h => wk_X1_goes l h) (zk_l1 ⟨_, rfl, cwV 1 X.hts (lw_V q1233 q1235 qs23 q103 q1236) rfl rfl rfl ⟨rfl, md_X1_goes⟩ ⟨Nat.le_of_ble_eq_true rfl, Nat.le_of_ble_eq_true rfl⟩⟩) rfl rfl (zk_rs (Nat.le_of_ble_eq_true rfl)) dX1_splits_231 ⟨by first | exact Nat.le_of_ble_eq_true rfl | omega | (dsimp only; omega), by first | exact Nat.le_of_ble_eq_true rfl | omega | (dsimp only; omega)⟩)) (fun P231 h => ?_)
  refine zv_iload X 5 dX1_splits_234 rfl ?_
  exact zv_iret X rfl (by first | exact Nat.le_of_ble_eq_true rfl | omega | (dsimp only; omega)) (by first | exact Nat.le_of_ble_eq_true rfl | omega | (dsimp only; omega)) dX1_splits_236 h
theorem kj_X1_splits_155 {p : Program} {l : Launch} {e : Env} {s : State} {m : MethodId} {args : Array Value} {below : List Frame} {meth : Method} {c : Code} {D : zk_G} {g : zk_M} {b0 : Nat} (X : zk_X p s m args meth c D g b0 cX1_splits 14 "LandFolio$Folio" "splits" (some Jvm.ClassFile.FieldType.int)) {post : Int32 → zk_H → Prop}  {a0 : Option Nat} {a1 : Int32} {a2 : Int32} {a3 : Int32} {a4 : Option Nat} {a5 : Option Nat} {a8 : Int32} {a9 : Int32} {a10 : Int32} {s0 : Int32} {P : zk_H}    (hh : wj_X1_splits_155 g post a0 a1 a2 a3 a4 a5 a8 a9 a10 s0 P) : zV p l e ({ frames := 8, cells := 10, slots := 420, locals := 193 } : Room) s m args below meth c D b0 14 (5) (210) (MQ below (va_Qi post (zk_B D b0) (zk_A b0)) args s 10 420 (zk_A b0)) P 155 [(0, va_rf (a0)), (1, .int (a1)), (2, .int (a2)), (3, .int (a3)), (4, va_rf (a4)), (5, va_rf (a5)), (8, .int (a8)), (9, .int (a9)), (10, .int (a10))] [.int (s0)] := by
  have h := hh
  unfold wj_X1_splits_155 at h
  refine zv_istore X (L' := [(11, .int (s0)), (0, va_rf (a0)), (1, .int (a1)), (2, .int (a2)), (3, .int (a3)), (4, va_rf (a4)), (5, va_rf (a5)), (8, .int (a8)), (9, .int (a9)), (10, .int (a10))]) dX1_splits_155 (by decide) rfl ?_
  refine zv_iload_n X 3 dX1_splits_157 rfl ?_
  refine zv_iconst X (v := 1) dX1_splits_158 rfl ?_
  refine zv_icmp_ne X (tgt := 172) dX1_splits_159 (by decide) h (fun h => ?_) (fun h => ?_)
  · refine zv_aload X 5 dX1_splits_172 rfl ?_
    refine zv_getf_i X fo_q319 dX1_splits_174 h (fun v174 h => ?_)
    refine zv_sub (L' := [(0, va_rf (a0)), (1, .int (a1)), (5, va_rf (a5)), (8, .int (a8)), (9, .int (a9)), (10, .int (a10)), (11, .int (s0))]) [1, 2, 6, 7, 8, 9, 0] rfl ?_
    refine zv_widen (c2 := 5) (s2 := 210) (by first | exact Nat.le_of_ble_eq_true rfl | omega | (dsimp only; omega)) (by first | exact Nat.le_of_ble_eq_true rfl | omega | (dsimp only; omega)) ?_
    exact kj_X1_splits_177 X  h
  · refine zv_aload X 5 dX1_splits_162 rfl ?_
    refine zv_getf_i X fo_q319 dX1_splits_164 h (fun v164 h => ?_)
    refine zv_iload_n X 4 dX1_splits_167 rfl ?_
    refine zv_isub X dX1_splits_168 ?_
    refine zv_goto X (tgt := 177) dX1_splits_169 (by decide) ?_
    refine zv_sub (L' := [(0, va_rf (a0)), (1, .int (a1)), (5, va_rf (a5)), (8, .int (a8)), (9, .int (a9)), (10, .int (a10)), (11, .int (s0))]) [1, 2, 6, 7, 8, 9, 0] rfl ?_
    refine zv_widen (c2 := 5) (s2 := 210) (by first | exact Nat.le_of_ble_eq_true rfl | omega | (dsimp only; omega)) (by first | exact Nat.le_of_ble_eq_true rfl | omega | (dsimp only; omega)) ?_
    exact kj_X1_splits_177 X  h
theorem kj_X1_splits_133 {p : Program} {l : Launch} {e : Env} {s : State} {m : MethodId} {args : Array Value} {below : List Frame} {meth : Method} {c : Code} {D : zk_G} {g : zk_M} {b0 : Nat} (X : zk_X p s m args meth c D g b0 cX1_splits 14 "LandFolio$Folio" "splits" (some Jvm.ClassFile.FieldType.int)) {post : Int32 → zk_H → Prop}  {a0 : Option Nat} {a1 : Int32} {a2 : Int32} {a3 : Int32} {a4 : Option Nat} {a5 : Option Nat} {a8 : Int32} {a9 : Int32} {s0 : Int32} {P : zk_H}    (hh : wj_X1_splits_133 g post a0 a1 a2 a3 a4 a5 a8 a9 s0 P) : zV p l e ({ frames := 8, cells := 10, slots := 420, locals := 193 } : Room) s m args below meth c D b0 14 (5) (210) (MQ below (va_Qi post (zk_B D b0) (zk_A b0)) args s 10 420 (zk_A b0)) P 133 [(0, va_rf (a0)), (1, .int (a1)), (2, .int (a2)), (3, .int (a3)), (4, va_rf (a4)), (5, va_rf (a5)), (8, .int (a8)), (9, .int (a9))] [.int (s0)] := by
  have h := hh
  unfold wj_X1_splits_133 at h
  refine zv_istore X (L' := [(10, .int (s0)), (0, va_rf (a0)), (1, .int (a1)), (2, .int (a2)), (3, .int (a3)), (4, va_rf (a4)), (5, va_rf (a5)), (8, .int (a8)), (9, .int (a9))]) dX1_splits_133 (by decide) rfl ?_
  refine zv_iload_n X 3 dX1_splits_135 rfl ?_
  refine zv_iconst X (v := 1) dX1_splits_136 rfl ?_
  refine zv_icmp_ne X (tgt := 148) dX1_splits_137 (by decide) h (fun h => ?_) (fun h => ?_)
  · refine zv_aload X 5 dX1_splits_148 rfl ?_
    refine zv_getf_i X fo_q316 dX1_splits_150 h (fun v150 h => ?_)
    refine zv_iload_n X 4 dX1_splits_153 rfl ?_
    refine zv_isub X dX1_splits_154 ?_
    refine zv_sub (L' := [(0, va_rf (a0)), (1, .int (a1)), (2, .int (a2)), (3, .int (a3)), (4, va_rf (a4)), (5, va_rf (a5)), (8, .int (a8)), (9, .int (a9)), (10, .int (s0))]) [1, 2, 3, 4, 5, 6, 7, 8, 0] rfl ?_
    refine zv_widen (c2 := 5) (s2 := 210) (by first | exact Nat.le_of_ble_eq_true rfl | omega | (dsimp only; omega)) (by first | exact Nat.le_of_ble_eq_true rfl | omega | (dsimp only; omega)) ?_
    exact kj_X1_splits_155 X  h
  · refine zv_aload X 5 dX1_splits_140 rfl ?_
    refine zv_getf_i X fo_q316 dX1_splits_142 h (fun v142 h => ?_)
    refine zv_goto X (tgt := 155) dX1_splits_145 (by decide) ?_
    refine zv_sub (L' := [(0, va_rf (a0)), (1, .int (a1)), (2, .int (a2)), (3, .int (a3)), (4, va_rf (a4)), (5, va_rf (a5)), (8, .int (a8)), (9, .int (a9)), (10, .int (s0))]) [1, 2, 3, 4, 5, 6, 7, 8, 0] rfl ?_
    refine zv_widen (c2 := 5) (s2 := 210) (by first | exact Nat.le_of_ble_eq_true rfl | omega | (dsimp only; omega)) (by first | exact Nat.le_of_ble_eq_true rfl | omega | (dsimp only; omega)) ?_
    exact kj_X1_splits_155 X  h
theorem kj_X1_splits_111 {p : Program} {l : Launch} {e : Env} {s : State} {m : MethodId} {args : Array Value} {below : List Frame} {meth : Method} {c : Code} {D : zk_G} {g : zk_M} {b0 : Nat} (X : zk_X p s m args meth c D g b0 cX1_splits 14 "LandFolio$Folio" "splits" (some Jvm.ClassFile.FieldType.int)) {post : Int32 → zk_H → Prop}  {a0 : Option Nat} {a1 : Int32} {a2 : Int32} {a3 : Int32} {a4 : Option Nat} {a5 : Option Nat} {a8 : Int32} {s0 : Int32} {P : zk_H}    (hh : wj_X1_splits_111 g post a0 a1 a2 a3 a4 a5 a8 s0 P) : zV p l e ({ frames := 8, cells := 10, slots := 420, locals := 193 } : Room) s m args below meth c D b0 14 (5) (210) (MQ below (va_Qi post (zk_B D b0) (zk_A b0)) args s 10 420 (zk_A b0)) P 111 [(0, va_rf (a0)), (1, .int (a1)), (2, .int (a2)), (3, .int (a3)), (4, va_rf (a4)), (5, va_rf (a5)), (8, .int (a8))] [.int (s0)] := by
  have h := hh
  unfold wj_X1_splits_111 at h
  refine zv_istore X (L' := [(9, .int (s0)), (0, va_rf (a0)), (1, .int (a1)), (2, .int (a2)), (3, .int (a3)), (4, va_rf (a4)), (5, va_rf (a5)), (8, .int (a8))]) dX1_splits_111 (by decide) rfl ?_
  refine zv_iload_n X 3 dX1_splits_113 rfl ?_
  refine zv_iconst X (v := 1) dX1_splits_114 rfl ?_
  refine zv_icmp_ne X (tgt := 128) dX1_splits_115 (by decide) h (fun h => ?_) (fun h => ?_)
  · refine zv_aload X 5 dX1_splits_128 rfl ?_
    refine zv_getf_i X fo_q311 dX1_splits_130 h (fun v130 h => ?_)
    refine zv_sub (L' := [(0, va_rf (a0)), (1, .int (a1)), (2, .int (a2)), (3, .int (a3)), (4, va_rf (a4)), (5, va_rf (a5)), (8, .int (a8)), (9, .int (s0))]) [1, 2, 3, 4, 5, 6, 7, 0] rfl ?_
    refine zv_widen (c2 := 5) (s2 := 210) (by first | exact Nat.le_of_ble_eq_true rfl | omega | (dsimp only; omega)) (by first | exact Nat.le_of_ble_eq_true rfl | omega | (dsimp only; omega)) ?_
    exact kj_X1_splits_133 X  h
  · refine zv_aload X 5 dX1_splits_118 rfl ?_
    refine zv_getf_i X fo_q311 dX1_splits_120 h (fun v120 h => ?_)
    refine zv_iload_n X 4 dX1_splits_123 rfl ?_
    refine zv_iadd X dX1_splits_124 ?_
    refine zv_goto X (tgt := 133) dX1_splits_125 (by decide) ?_
    refine zv_sub (L' := [(0, va_rf (a0)), (1, .int (a1)), (2, .int (a2)), (3, .int (a3)), (4, va_rf (a4)), (5, va_rf (a5)), (8, .int (a8)), (9, .int (s0))]) [1, 2, 3, 4, 5, 6, 7, 0] rfl ?_
    refine zv_widen (c2 := 5) (s2 := 210) (by first | exact Nat.le_of_ble_eq_true rfl | omega | (dsimp only; omega)) (by first | exact Nat.le_of_ble_eq_true rfl | omega | (dsimp only; omega)) ?_
    exact kj_X1_splits_133 X  h
theorem kj_X1_splits_47 {p : Program} {l : Launch} {e : Env} {s : State} {m : MethodId} {args : Array Value} {below : List Frame} {meth : Method} {c : Code} {D : zk_G} {g : zk_M} {b0 : Nat} (X : zk_X p s m args meth c D g b0 cX1_splits 14 "LandFolio$Folio" "splits" (some Jvm.ClassFile.FieldType.int)) {post : Int32 → zk_H → Prop}  {a0 : Option Nat} {a1 : Int32} {a2 : Int32} {a3 : Int32} {a4 : Option Nat} {a5 : Option Nat} {a6 : Int32} {s0 : Int32} {P : zk_H}    (hh : wj_X1_splits_47 g post a0 a1 a2 a3 a4 a5 a6 s0 P) : zV p l e ({ frames := 8, cells := 10, slots := 420, locals := 193 } : Room) s m args below meth c D b0 14 (0) (0) (MQ below (va_Qi post (zk_B D b0) (zk_A b0)) args s 10 420 (zk_A b0)) P 47 [(0, va_rf (a0)), (1, .int (a1)), (2, .int (a2)), (3, .int (a3)), (4, va_rf (a4)), (5, va_rf (a5)), (6, .int (a6))] [.int (s0)] := by
  have h := hh
  unfold wj_X1_splits_47 at h
  refine zv_istore X (L' := [(7, .int (s0)), (0, va_rf (a0)), (1, .int (a1)), (2, .int (a2)), (3, .int (a3)), (4, va_rf (a4)), (5, va_rf (a5)), (6, .int (a6))]) dX1_splits_47 (by decide) rfl ?_
  refine zv_aload_n X 1 dX1_splits_49 rfl ?_
  refine zv_new X zk_nc2 q300 (by first | exact Nat.le_of_ble_eq_true rfl | omega | (dsimp only; omega)) (by first | exact Nat.le_of_ble_eq_true rfl | omega | (dsimp only; omega)) dX1_splits_50 h (fun v50 P50 h => ?_)
  refine zv_dup X dX1_splits_53 (zk_rc _) ?_
  refine zv_aload X 5 dX1_splits_54 rfl ?_
  refine zv_getf_i X fo_q308 dX1_splits_56 h (fun v56 h => ?_)
  refine zv_aload X 5 dX1_splits_59 rfl ?_
  refine zv_getf_i X fo_q311 dX1_splits_61 h (fun v61 h => ?_)
  refine zv_iload X 7 dX1_splits_64 rfl ?_
  refine zv_iload X 0 dX1_splits_66 rfl ?_
  refine zv_aload_n X 1 dX1_splits_68 rfl ?_
  refine zv_getf_i X fo_q189 dX1_splits_69 h (fun v69 h => ?_)
  refine zv_iload_n X 2 dX1_splits_72 rfl ?_
  refine zv_bipush X (v := -2) dX1_splits_73 rfl ?_
  refine zv_cv ((zr_I X (As := [.int (v56), .int (v61), .int (a6), .int (s0), .int (v69), .int (a1), .int (-2)]) (rest := [va_rf (some v50), va_rf (a0)]) (wk_X2_init l h) (cwI 7 X.hts (lw_meth q304) rfl rfl rfl (X.w q111) (X.w q302) (X.w q303) rfl md_X2_init ⟨Nat.le_of_ble_eq_true rfl, Nat.le_of_ble_eq_true rfl⟩) rfl rfl (zk_rs (Nat.le_of_ble_eq_true rfl)) dX1_splits_75 ⟨by first | exact Nat.le_of_ble_eq_true rfl | omega | (dsimp only; omega), by first | exact Nat.le_of_ble_eq_true rfl | omega | (dsimp only; omega)⟩)) (fun P75 h => ?_)
  refine zv_aload X 6 dX1_splits_78 rfl ?_
  refine zv_clone X (ty := .int) (by decide +kernel) (by decide) q1197 q1198 q1199 (zk_nwm q1200 rfl) ⟨by first | decide | (dsimp only; decide), by first | decide | (dsimp only; decide)⟩ (zk_rs (Nat.le_of_ble_eq_true rfl)) (by first | exact Nat.le_of_ble_eq_true rfl | omega | (dsimp only; omega)) (by first | exact Nat.le_of_ble_eq_true rfl | omega | (dsimp only; omega)) dX1_splits_80 h (fun v80 P80 h => ?_)
  refine zv_castA X (ty := .int) (by decide +kernel) q1201 dX1_splits_83 h (fun h => ?_)
  refine zv_ci ((zr_Vl X (As := [va_rf (some v50), va_rf (some v80)]) (rest := []) h (fun a h => wk_X1_comes l h) (zk_l1 ⟨_, rfl, cwV 2 X.hts (lw_V q354 q355 q356 q103 q357) rfl rfl rfl ⟨rfl, md_X1_comes⟩ ⟨Nat.le_of_ble_eq_true rfl, Nat.le_of_ble_eq_true rfl⟩⟩) rfl rfl (zk_rs (Nat.le_of_ble_eq_true rfl)) dX1_splits_86 ⟨by first | exact Nat.le_of_ble_eq_true rfl | omega | (dsimp only; omega), by first | exact Nat.le_of_ble_eq_true rfl | omega | (dsimp only; omega)⟩)) (fun v86 P86 h => ?_)
  refine zv_istore X (L' := [(8, .int (v86)), (7, .int (s0)), (0, va_rf (a0)), (1, .int (a1)), (2, .int (a2)), (3, .int (a3)), (4, va_rf (a4)), (5, va_rf (a5)), (6, .int (a6))]) dX1_splits_89 (by decide) rfl ?_
  refine zv_iload_n X 4 dX1_splits_91 rfl ?_
  refine zv_iconst X (v := 1) dX1_splits_92 rfl ?_
  refine zv_icmp_ne X (tgt := 104) dX1_splits_93 (by decide) h (fun h => ?_) (fun h => ?_)
  · refine zv_aload X 6 dX1_splits_104 rfl ?_
    refine zv_getf_i X fo_q308 dX1_splits_106 h (fun v106 h => ?_)
    refine zv_iload_n X 5 dX1_splits_109 rfl ?_
    refine zv_iadd X dX1_splits_110 ?_
    refine zv_sub (L' := [(0, va_rf (a0)), (1, .int (a1)), (2, .int (a2)), (3, .int (a3)), (4, va_rf (a4)), (5, va_rf (a5)), (8, .int (v86))]) [2, 3, 4, 5, 6, 7, 0] rfl ?_
    refine zv_widen (c2 := 5) (s2 := 210) (by first | exact Nat.le_of_ble_eq_true rfl | omega | (dsimp only; omega)) (by first | exact Nat.le_of_ble_eq_true rfl | omega | (dsimp only; omega)) ?_
    exact kj_X1_splits_111 X  h
  · refine zv_aload X 6 dX1_splits_96 rfl ?_
    refine zv_getf_i X fo_q308 dX1_splits_98 h (fun v98 h => ?_)
    refine zv_goto X (tgt := 111) dX1_splits_101 (by decide) ?_
    refine zv_sub (L' := [(0, va_rf (a0)), (1, .int (a1)), (2, .int (a2)), (3, .int (a3)), (4, va_rf (a4)), (5, va_rf (a5)), (8, .int (v86))]) [2, 3, 4, 5, 6, 7, 0] rfl ?_
    refine zv_widen (c2 := 5) (s2 := 210) (by first | exact Nat.le_of_ble_eq_true rfl | omega | (dsimp only; omega)) (by first | exact Nat.le_of_ble_eq_true rfl | omega | (dsimp only; omega)) ?_
    exact kj_X1_splits_111 X  h
theorem kj_X1_splits_31 {p : Program} {l : Launch} {e : Env} {s : State} {m : MethodId} {args : Array Value} {below : List Frame} {meth : Method} {c : Code} {D : zk_G} {g : zk_M} {b0 : Nat} (X : zk_X p s m args meth c D g b0 cX1_splits 14 "LandFolio$Folio" "splits" (some Jvm.ClassFile.FieldType.int)) {post : Int32 → zk_H → Prop}  {a0 : Option Nat} {a1 : Int32} {a2 : Int32} {a3 : Int32} {a4 : Option Nat} {a5 : Option Nat} {s0 : Int32} {P : zk_H}    (hh : wj_X1_splits_31 g post a0 a1 a2 a3 a4 a5 s0 P) : zV p l e ({ frames := 8, cells := 10, slots := 420, locals := 193 } : Room) s m args below meth c D b0 14 (0) (0) (MQ below (va_Qi post (zk_B D b0) (zk_A b0)) args s 10 420 (zk_A b0)) P 31 [(0, va_rf (a0)), (1, .int (a1)), (2, .int (a2)), (3, .int (a3)), (4, va_rf (a4)), (5, va_rf (a5))] [.int (s0)] := by
  have h := hh
  unfold wj_X1_splits_31 at h
  refine zv_istore X (L' := [(6, .int (s0)), (0, va_rf (a0)), (1, .int (a1)), (2, .int (a2)), (3, .int (a3)), (4, va_rf (a4)), (5, va_rf (a5))]) dX1_splits_31 (by decide) (by simp [zk_s1, zk_s2, zk_rc, zk_ic, zk_jc]) ?_
  refine zv_iload_n X 3 dX1_splits_33 rfl ?_
  refine zv_iconst X (v := 1) dX1_splits_34 rfl ?_
  refine zv_icmp_ne X (tgt := 42) dX1_splits_35 (by decide) h (fun h => ?_) (fun h => ?_)
  · refine zv_aload X 5 dX1_splits_42 rfl ?_
    refine zv_getf_i X fo_q319 dX1_splits_44 h (fun v44 h => ?_)
    refine zv_sub (L' := [(0, va_rf (a0)), (1, .int (a1)), (2, .int (a2)), (3, .int (a3)), (4, va_rf (a4)), (5, va_rf (a5)), (6, .int (s0))]) [1, 2, 3, 4, 5, 6, 0] rfl ?_
    refine zv_widen (c2 := 0) (s2 := 0) (by first | exact Nat.le_of_ble_eq_true rfl | omega | (dsimp only; omega)) (by first | exact Nat.le_of_ble_eq_true rfl | omega | (dsimp only; omega)) ?_
    exact kj_X1_splits_47 X  h
  · refine zv_iload_n X 4 dX1_splits_38 rfl ?_
    refine zv_goto X (tgt := 47) dX1_splits_39 (by decide) ?_
    refine zv_sub (L' := [(0, va_rf (a0)), (1, .int (a1)), (2, .int (a2)), (3, .int (a3)), (4, va_rf (a4)), (5, va_rf (a5)), (6, .int (s0))]) [1, 2, 3, 4, 5, 6, 0] rfl ?_
    refine zv_widen (c2 := 0) (s2 := 0) (by first | exact Nat.le_of_ble_eq_true rfl | omega | (dsimp only; omega)) (by first | exact Nat.le_of_ble_eq_true rfl | omega | (dsimp only; omega)) ?_
    exact kj_X1_splits_47 X  h
theorem md_X1_splits : yX1_splits.cls ≠ "java/lang/invoke/MethodHandle" ∧ yX1_splits.cls ≠ "java/lang/invoke/VarHandle" ∧ (parseMethodDescriptor yX1_splits.desc).map (fun d => d.parameters.length) = some 3 := by decide +kernel
theorem wk_X1_splits (l : Launch) {D : zk_G} {g : zk_M} {b0 : Nat} {post : Int32 → zk_H → Prop} {this : Nat} {x1 : Int32} {x2 : Int32} {x3 : Int32} {P : zk_H} (hh : wp_X1_splits g post this x1 x2 x3 P) : Met l yX1_splits (ws_ yX1_splits cX1_splits 14 (some Jvm.ClassFile.FieldType.int)) ({ frames := 8, cells := 10, slots := 420, locals := 193 } : Room) (va_Pc [.ref this, .int (x1), .int (x2), .int (x3)] (zk_pre D g b0 P)) (va_Qi post (zk_B D b0) (zk_A b0)) 10 420 (zk_A b0) := by
  refine zk_enter "LandFolio$Folio" "splits" rfl rfl (plainFor_of_name (by decide)) [.ref this, .int (x1), .int (x2), .int (x3)] (Nat.le_of_ble_eq_true rfl) ?_
  intro p e s m args below meth c X
  refine zk_at0 (L' := [(0, va_rf (some this)), (1, .int (x1)), (2, .int (x2)), (3, .int (x3))]) (rfl) ?_
  have h := hh
  unfold wp_X1_splits at h
  refine zv_aload_n X 0 dX1_splits_0 rfl ?_
  refine zv_iload_n X 1 dX1_splits_1 rfl ?_
  refine zv_cqR ((zr_Vl X (As := [.int (x1)]) (rest := []) h (fun a h => wk_X1_parcel l h) (zk_l1 ⟨_, rfl, cwV 1 X.hts (lw_V q501 q502 q503 q103 q504) rfl rfl rfl ⟨rfl, md_X1_parcel⟩ ⟨Nat.le_of_ble_eq_true rfl, Nat.le_of_ble_eq_true rfl⟩⟩) rfl rfl (zk_rs (Nat.le_of_ble_eq_true rfl)) dX1_splits_2 ⟨by first | exact Nat.le_of_ble_eq_true rfl | omega | (dsimp only; omega), by first | exact Nat.le_of_ble_eq_true rfl | omega | (dsimp only; omega)⟩)) (fun v2 h => ?_)
  refine zv_astore X (L' := [(4, va_rf (v2)), (0, va_rf (some this)), (1, .int (x1)), (2, .int (x2)), (3, .int (x3))]) dX1_splits_5 (by decide) rfl ?_
  refine zv_aload_n X 1 dX1_splits_7 rfl ?_
  refine zv_iload_n X 2 dX1_splits_8 rfl ?_
  refine zv_cqR ((zr_Vl X (As := [.int (x1)]) (rest := []) h (fun a h => wk_X1_deed l h) (zk_l1 ⟨_, rfl, cwV 1 X.hts (lw_V q1189 q1190 q1191 q103 q1192) rfl rfl rfl ⟨rfl, md_X1_deed⟩ ⟨Nat.le_of_ble_eq_true rfl, Nat.le_of_ble_eq_true rfl⟩⟩) rfl rfl (zk_rs (Nat.le_of_ble_eq_true rfl)) dX1_splits_9 ⟨by first | exact Nat.le_of_ble_eq_true rfl | omega | (dsimp only; omega), by first | exact Nat.le_of_ble_eq_true rfl | omega | (dsimp only; omega)⟩)) (fun v9 h => ?_)
  refine zv_getf_r X fo_q375 dX1_splits_12 h (fun v12 h => ?_)
  refine zv_astore X (L' := [(5, va_rf (v12)), (4, va_rf (v2)), (0, va_rf (some this)), (1, .int (x1)), (2, .int (x2)), (3, .int (x3))]) dX1_splits_15 (by decide) (by simp [zk_s1, zk_s2, zk_rc, zk_ic, zk_jc]) ?_
  refine zv_iload_n X 4 dX1_splits_17 rfl ?_
  refine zv_iconst X (v := 1) dX1_splits_18 rfl ?_
  refine zv_icmp_ne X (tgt := 30) dX1_splits_19 (by decide) h (fun h => ?_) (fun h => ?_)
  · refine zv_iload_n X 5 dX1_splits_30 rfl ?_
    refine zv_sub (L' := [(0, va_rf (some this)), (1, .int (x1)), (2, .int (x2)), (3, .int (x3)), (4, va_rf (v2)), (5, va_rf (v12))]) [2, 3, 4, 5, 1, 0] rfl ?_
    refine zv_widen (c2 := 0) (s2 := 0) (by first | exact Nat.le_of_ble_eq_true rfl | omega | (dsimp only; omega)) (by first | exact Nat.le_of_ble_eq_true rfl | omega | (dsimp only; omega)) ?_
    exact kj_X1_splits_31 X  h
  · refine zv_aload X 1 dX1_splits_22 rfl ?_
    refine zv_getf_i X fo_q316 dX1_splits_24 h (fun v24 h => ?_)
    refine zv_goto X (tgt := 31) dX1_splits_27 (by decide) ?_
    refine zv_sub (L' := [(0, va_rf (some this)), (1, .int (x1)), (2, .int (x2)), (3, .int (x3)), (4, va_rf (v2)), (5, va_rf (v12))]) [2, 3, 4, 5, 1, 0] rfl ?_
    refine zv_widen (c2 := 0) (s2 := 0) (by first | exact Nat.le_of_ble_eq_true rfl | omega | (dsimp only; omega)) (by first | exact Nat.le_of_ble_eq_true rfl | omega | (dsimp only; omega)) ?_
    exact kj_X1_splits_31 X  h
theorem md_X0_split : yX0_split.cls ≠ "java/lang/invoke/MethodHandle" ∧ yX0_split.cls ≠ "java/lang/invoke/VarHandle" ∧ (parseMethodDescriptor yX0_split.desc).map (fun d => d.parameters.length) = some 3 := by decide +kernel
theorem wk_X0_split (l : Launch) {D : zk_G} {g : zk_M} {b0 : Nat} {post : Int32 → zk_H → Prop} {this : Nat} {x1 : Int32} {x2 : Int32} {x3 : Int32} {P : zk_H} (hh : wp_X0_split g post this x1 x2 x3 P) : Met l yX0_split (ws_ yX0_split cX0_split 6 (some Jvm.ClassFile.FieldType.int)) ({ frames := 9, cells := 190, slots := 7650, locals := 226 } : Room) (va_Pc [.ref this, .int (x1), .int (x2), .int (x3)] (zk_pre D g b0 P)) (va_Qi post (zk_B D b0) (zk_A b0)) 190 7650 (zk_A b0) := by
  refine zk_enter "LandFolio" "split" rfl rfl (plainFor_of_name (by decide)) [.ref this, .int (x1), .int (x2), .int (x3)] (Nat.le_of_ble_eq_true rfl) ?_
  intro p e s m args below meth c X
  refine zk_at0 (L' := [(0, va_rf (some this)), (1, .int (x1)), (2, .int (x2)), (3, .int (x3))]) (rfl) ?_
  have h := hh
  unfold wp_X0_split at h
  refine zv_aload_n X 0 dX0_split_0 rfl ?_
  refine zv_iload_n X 1 dX0_split_1 rfl ?_
  refine zv_iload_n X 2 dX0_split_2 rfl ?_
  refine zv_iload_n X 3 dX0_split_3 rfl ?_
  refine zv_ciR ((zr_Vl X (As := [.int (x1), .int (x2), .int (x3)]) (rest := []) h (fun a h => wk_X0_isSplit l h) (zk_l1 ⟨_, rfl, cwV 3 X.hts (lw_V q1360 q1362 qs32 q102 q1363) rfl rfl rfl ⟨rfl, md_X0_isSplit⟩ ⟨Nat.le_of_ble_eq_true rfl, Nat.le_of_ble_eq_true rfl⟩⟩) rfl rfl (zk_rs (Nat.le_of_ble_eq_true rfl)) dX0_split_4 ⟨by first | exact Nat.le_of_ble_eq_true rfl | omega | (dsimp only; omega), by first | exact Nat.le_of_ble_eq_true rfl | omega | (dsimp only; omega)⟩)) (fun v4 h => ?_)
  refine zv_if_ne X (tgt := 12) dX0_split_7 (by decide) h (fun h => ?_) (fun h => ?_)
  · refine zv_aload_n X 0 dX0_split_12 rfl ?_
    refine zv_getf_r X fo_q402 dX0_split_13 h (fun v13 h => ?_)
    refine zv_iload_n X 1 dX0_split_16 rfl ?_
    refine zv_ciR ((zr_Vl X (As := [.int (x1)]) (rest := []) h (fun a h => wk_X1_isFree l h) (zk_l1 ⟨_, rfl, cwV 1 X.hts (lw_V q1373 q1374 q1375 q103 q1376) rfl rfl rfl ⟨rfl, md_X1_isFree⟩ ⟨Nat.le_of_ble_eq_true rfl, Nat.le_of_ble_eq_true rfl⟩⟩) rfl rfl (zk_rs (Nat.le_of_ble_eq_true rfl)) dX0_split_17 ⟨by first | exact Nat.le_of_ble_eq_true rfl | omega | (dsimp only; omega), by first | exact Nat.le_of_ble_eq_true rfl | omega | (dsimp only; omega)⟩)) (fun v17 h => ?_)
    refine zv_if_ne X (tgt := 26) dX0_split_20 (by decide) h (fun h => ?_) (fun h => ?_)
    · refine zv_aload_n X 0 dX0_split_26 rfl ?_
      refine zv_getf_r X fo_q402 dX0_split_27 h (fun v27 h => ?_)
      refine zv_ciR ((zr_Vl X (As := []) (rest := []) h (fun a h => wk_X1_canSplit l h) (zk_l1 ⟨_, rfl, cwV 0 X.hts (lw_V q1378 q1168 q1169 q103 q1170) rfl rfl rfl ⟨rfl, md_X1_canSplit⟩ ⟨Nat.le_of_ble_eq_true rfl, Nat.le_of_ble_eq_true rfl⟩⟩) rfl rfl (zk_rs (Nat.le_of_ble_eq_true rfl)) dX0_split_30 ⟨by first | exact Nat.le_of_ble_eq_true rfl | omega | (dsimp only; omega), by first | exact Nat.le_of_ble_eq_true rfl | omega | (dsimp only; omega)⟩)) (fun v30 h => ?_)
      refine zv_if_ne X (tgt := 39) dX0_split_33 (by decide) h (fun h => ?_) (fun h => ?_)
      · refine zv_aload_n X 0 dX0_split_39 rfl ?_
        refine zv_getf_r X fo_q402 dX0_split_40 h (fun v40 h => ?_)
        refine zv_cq ((zr_Vl X (As := []) (rest := []) h (fun a h => wk_X1_copied l h) (zk_l1 ⟨_, rfl, cwV 0 X.hts (lw_V q465 q466 q467 q103 q468) rfl rfl rfl ⟨rfl, md_X1_copied⟩ ⟨Nat.le_of_ble_eq_true rfl, Nat.le_of_ble_eq_true rfl⟩⟩) rfl rfl (zk_rs (Nat.le_of_ble_eq_true rfl)) dX0_split_43 ⟨by first | exact Nat.le_of_ble_eq_true rfl | omega | (dsimp only; omega), by first | exact Nat.le_of_ble_eq_true rfl | omega | (dsimp only; omega)⟩)) (fun v43 P43 h => ?_)
        refine zv_astore X (L' := [(4, va_rf (v43)), (0, va_rf (some this)), (1, .int (x1)), (2, .int (x2)), (3, .int (x3))]) dX0_split_46 (by decide) rfl ?_
        refine zv_aload_n X 1 dX0_split_48 rfl ?_
        refine zv_getf_r X fo_q402 dX0_split_49 h (fun v49 h => ?_)
        refine zv_iload_n X 2 dX0_split_52 rfl ?_
        refine zv_iload_n X 3 dX0_split_53 rfl ?_
        refine zv_iload_n X 4 dX0_split_54 rfl ?_
        refine zv_ci ((zr_Vl X (As := [.int (x1), .int (x2), .int (x3)]) (rest := []) h (fun a h => wk_X1_splits l h) (zk_l1 ⟨_, rfl, cwV 3 X.hts (lw_V q1379 q1186 q1187 q103 q1188) rfl rfl rfl ⟨rfl, md_X1_splits⟩ ⟨Nat.le_of_ble_eq_true rfl, Nat.le_of_ble_eq_true rfl⟩⟩) rfl rfl (zk_rs (Nat.le_of_ble_eq_true rfl)) dX0_split_55 ⟨by first | exact Nat.le_of_ble_eq_true rfl | omega | (dsimp only; omega), by first | exact Nat.le_of_ble_eq_true rfl | omega | (dsimp only; omega)⟩)) (fun v55 P55 h => ?_)
        refine zv_istore X (L' := [(5, .int (v55)), (4, va_rf (v43)), (0, va_rf (some this)), (1, .int (x1)), (2, .int (x2)), (3, .int (x3))]) dX0_split_58 (by decide) (by simp [zk_s1, zk_s2, zk_rc, zk_ic, zk_jc]) ?_
        refine zv_aload_n X 2 dX0_split_60 rfl ?_
        refine zv_getf_r X fo_q402 dX0_split_61 h (fun v61 h => ?_)
        refine zv_iconst X (v := 1) dX0_split_64 rfl ?_
        refine zv_iload_n X 3 dX0_split_65 rfl ?_
        refine zv_iload X 0 dX0_split_66 rfl ?_
        refine zv_cv ((zr_Vl X (As := [.int (1), .int (x1), .int (v55)]) (rest := []) h (fun a h => wk_X1_logs l h) (zk_l1 ⟨_, rfl, cwV 3 X.hts (lw_V q1318 q1319 q1320 q103 q1321) rfl rfl rfl ⟨rfl, md_X1_logs⟩ ⟨Nat.le_of_ble_eq_true rfl, Nat.le_of_ble_eq_true rfl⟩⟩) rfl rfl (zk_rs (Nat.le_of_ble_eq_true rfl)) dX0_split_68 ⟨by first | exact Nat.le_of_ble_eq_true rfl | omega | (dsimp only; omega), by first | exact Nat.le_of_ble_eq_true rfl | omega | (dsimp only; omega)⟩)) (fun P68 h => ?_)
        refine zv_aload_n X 2 dX0_split_71 rfl ?_
        refine zv_aload X 1 dX0_split_72 rfl ?_
        refine zv_iload X 0 dX0_split_74 rfl ?_
        refine zv_ci ((zr_Vl X (As := [va_rf (v43), .int (v55)]) (rest := []) h (fun a h => wk_X0_done l h) (zk_l1 ⟨_, rfl, cwV 2 X.hts (lw_V q677 q679 qs7 q102 q680) rfl rfl rfl ⟨rfl, md_X0_done⟩ ⟨Nat.le_of_ble_eq_true rfl, Nat.le_of_ble_eq_true rfl⟩⟩) rfl rfl (zk_rs (Nat.le_of_ble_eq_true rfl)) dX0_split_76 ⟨by first | exact Nat.le_of_ble_eq_true rfl | omega | (dsimp only; omega), by first | exact Nat.le_of_ble_eq_true rfl | omega | (dsimp only; omega)⟩)) (fun v76 P76 h => ?_)
        exact zv_iret X rfl (by first | exact Nat.le_of_ble_eq_true rfl | omega | (dsimp only; omega)) (by first | exact Nat.le_of_ble_eq_true rfl | omega | (dsimp only; omega)) dX0_split_79 h
      · refine zv_bipush X (v := -3) dX0_split_36 rfl ?_
        exact zv_iret X rfl (by first | exact Nat.le_of_ble_eq_true rfl | omega | (dsimp only; omega)) (by first | exact Nat.le_of_ble_eq_true rfl | omega | (dsimp only; omega)) dX0_split_38 h
    · refine zv_bipush X (v := -4) dX0_split_23 rfl ?_
      exact zv_iret X rfl (by first | exact Nat.le_of_ble_eq_true rfl | omega | (dsimp only; omega)) (by first | exact Nat.le_of_ble_eq_true rfl | omega | (dsimp only; omega)) dX0_split_25 h
  · refine zv_iconst X (v := -1) dX0_split_10 rfl ?_
    exact zv_iret X rfl (by first | exact Nat.le_of_ble_eq_true rfl | omega | (dsimp only; omega)) (by first | exact Nat.le_of_ble_eq_true rfl | omega | (dsimp only; omega)) dX0_split_11 h
theorem md_X1_needsDeed : yX1_needsDeed.cls ≠ "java/lang/invoke/MethodHandle" ∧ yX1_needsDeed.cls ≠ "java/lang/invoke/VarHandle" ∧ (parseMethodDescriptor yX1_needsDeed.desc).map (fun d => d.parameters.length) = some 1 := by decide +kernel
theorem wk_X1_needsDeed (l : Launch) {D : zk_G} {g : zk_M} {b0 : Nat} {post : Int32 → Prop} {this : Nat} {x1 : Int32} {P : zk_H} (hh : wp_X1_needsDeed post this x1 P) : Met l yX1_needsDeed (ws_ yX1_needsDeed cX1_needsDeed 2 (some Jvm.ClassFile.FieldType.boolean)) ({ frames := 5, cells := 0, slots := 0, locals := 110 } : Room) (va_Pc [.ref this, .int (x1)] (zk_pre D g b0 P)) (va_Qi (fun r u => post r ∧ u = P) (zk_B D b0) (zk_A b0)) 0 0 (zk_A b0) := by
  refine zk_enter "LandFolio$Folio" "needsDeed" rfl rfl (plainFor_of_name (by decide)) [.ref this, .int (x1)] (Nat.le_of_ble_eq_true rfl) ?_
  intro p e s m args below meth c X
  refine zk_at0 (L' := [(0, va_rf (some this)), (1, .int (x1))]) (rfl) ?_
  have h := hh
  unfold wp_X1_needsDeed at h
  refine zv_aload_n X 0 dX1_needsDeed_0 rfl ?_
  refine zv_iload_n X 1 dX1_needsDeed_1 rfl ?_
  refine zv_cqR ((zr_Vl X (As := [.int (x1)]) (rest := []) h (fun a h => wk_X1_deed l h) (zk_l1 ⟨_, rfl, cwV 1 X.hts (lw_V q1189 q1190 q1191 q103 q1192) rfl rfl rfl ⟨rfl, md_X1_deed⟩ ⟨Nat.le_of_ble_eq_true rfl, Nat.le_of_ble_eq_true rfl⟩⟩) rfl rfl (zk_rs (Nat.le_of_ble_eq_true rfl)) dX1_needsDeed_2 ⟨by first | exact Nat.le_of_ble_eq_true rfl | omega | (dsimp only; omega), by first | exact Nat.le_of_ble_eq_true rfl | omega | (dsimp only; omega)⟩)) (fun v2 h => ?_)
  refine zv_getf_i X fo_q372 dX1_needsDeed_5 h (fun v5 h => ?_)
  refine zv_aload_n X 0 dX1_needsDeed_8 rfl ?_
  refine zv_getf_i X fo_q189 dX1_needsDeed_9 h (fun v9 h => ?_)
  refine zv_icmp_eq X (tgt := 19) dX1_needsDeed_12 (by decide) h (fun h => ?_) (fun h => ?_)
  · refine zv_iconst X (v := 0) dX1_needsDeed_19 rfl ?_
    exact zv_zret X (ty := .boolean) rfl (by first | exact Nat.le_of_ble_eq_true rfl | omega | (dsimp only; omega)) (by first | exact Nat.le_of_ble_eq_true rfl | omega | (dsimp only; omega)) dX1_needsDeed_20 ⟨rfl, ⟨h, rfl⟩⟩
  · refine zv_iconst X (v := 1) dX1_needsDeed_15 rfl ?_
    refine zv_goto X (tgt := 20) dX1_needsDeed_16 (by decide) ?_
    exact zv_zret X (ty := .boolean) rfl (by first | exact Nat.le_of_ble_eq_true rfl | omega | (dsimp only; omega)) (by first | exact Nat.le_of_ble_eq_true rfl | omega | (dsimp only; omega)) dX1_needsDeed_20 ⟨rfl, ⟨h, rfl⟩⟩
theorem md_X1_deeds : yX1_deeds.cls ≠ "java/lang/invoke/MethodHandle" ∧ yX1_deeds.cls ≠ "java/lang/invoke/VarHandle" ∧ (parseMethodDescriptor yX1_deeds.desc).map (fun d => d.parameters.length) = some 2 := by decide +kernel
theorem wk_X1_deeds (l : Launch) {D : zk_G} {g : zk_M} {b0 : Nat} {post : zk_H → Prop} {this : Nat} {x1 : Int32} {x2 : Option Nat} {P : zk_H} (hh : wp_X1_deeds g post this x1 x2 P) : Met l yX1_deeds (ws_ yX1_deeds cX1_deeds 6 none) ({ frames := 7, cells := 2, slots := 99, locals := 171 } : Room) (va_Pc [.ref this, .int (x1), va_rf (x2)] (zk_pre D g b0 P)) (va_Qv post (zk_B D b0) (zk_A b0)) 2 99 (zk_A b0) := by
  refine zk_enter "LandFolio$Folio" "deeds" rfl rfl (plainFor_of_name (by decide)) [.ref this, .int (x1), va_rf (x2)] (by cases x2 <;> exact Nat.le_of_ble_eq_true rfl) ?_
  intro p e s m args below meth c X
  refine zk_at0 (L' := [(0, va_rf (some this)), (1, .int (x1)), (2, va_rf (x2))]) (by cases x2 <;> rfl) ?_
  have h := hh
  unfold wp_X1_deeds at h
  refine zv_aload_n X 0 dX1_deeds_0 rfl ?_
  refine zv_iload_n X 1 dX1_deeds_1 rfl ?_
  refine zv_cqR ((zr_Vl X (As := [.int (x1)]) (rest := []) h (fun a h => wk_X1_deed l h) (zk_l1 ⟨_, rfl, cwV 1 X.hts (lw_V q1189 q1190 q1191 q103 q1192) rfl rfl rfl ⟨rfl, md_X1_deed⟩ ⟨Nat.le_of_ble_eq_true rfl, Nat.le_of_ble_eq_true rfl⟩⟩) rfl rfl (zk_rs (Nat.le_of_ble_eq_true rfl)) dX1_deeds_2 ⟨by first | exact Nat.le_of_ble_eq_true rfl | omega | (dsimp only; omega), by first | exact Nat.le_of_ble_eq_true rfl | omega | (dsimp only; omega)⟩)) (fun v2 h => ?_)
  refine zv_astore_n X (i := 3) (L' := [(3, va_rf (v2)), (0, va_rf (some this)), (1, .int (x1)), (2, va_rf (x2))]) dX1_deeds_5 rfl (by decide) (by simp [zk_s1, zk_s2, zk_rc, zk_ic, zk_jc]) ?_
  refine zv_new X zk_nc3 q359 (by first | exact Nat.le_of_ble_eq_true rfl | omega | (dsimp only; omega)) (by first | exact Nat.le_of_ble_eq_true rfl | omega | (dsimp only; omega)) dX1_deeds_6 h (fun v6 P6 h => ?_)
  refine zv_dup X dX1_deeds_9 (zk_rc _) ?_
  refine zv_iload_n X 2 dX1_deeds_10 rfl ?_
  refine zv_aload_n X 1 dX1_deeds_11 rfl ?_
  refine zv_getf_i X fo_q189 dX1_deeds_12 h (fun v12 h => ?_)
  refine zv_aload_n X 3 dX1_deeds_15 rfl ?_
  refine zv_cv ((zr_I X (As := [.int (x1), .int (v12), va_rf (x2)]) (rest := [va_rf (some v6)]) (wk_X3_init l h) (cwI 3 X.hts (lw_meth q367) rfl rfl rfl (X.w q112) (X.w q365) (X.w q366) rfl md_X3_init ⟨Nat.le_of_ble_eq_true rfl, Nat.le_of_ble_eq_true rfl⟩) rfl rfl (zk_rs (Nat.le_of_ble_eq_true rfl)) dX1_deeds_16 ⟨by first | exact Nat.le_of_ble_eq_true rfl | omega | (dsimp only; omega), by first | exact Nat.le_of_ble_eq_true rfl | omega | (dsimp only; omega)⟩)) (fun P16 h => ?_)
  refine zv_astore X (L' := [(4, va_rf (some v6)), (3, va_rf (v2)), (0, va_rf (some this)), (1, .int (x1)), (2, va_rf (x2))]) dX1_deeds_19 (by decide) (by simp [zk_s1, zk_s2, zk_rc, zk_ic, zk_jc]) ?_
  refine zv_aload_n X 1 dX1_deeds_21 rfl ?_
  refine zv_getf_i X fo_q372 dX1_deeds_22 h (fun v22 h => ?_)
  refine zv_aload_n X 2 dX1_deeds_25 rfl ?_
  refine zv_getf_i X fo_q189 dX1_deeds_26 h (fun v26 h => ?_)
  refine zv_icmp_ne X (tgt := 57) dX1_deeds_29 (by decide) h (fun h => ?_) (fun h => ?_)
  · refine zv_aload_n X 2 dX1_deeds_57 rfl ?_
    refine zv_getf_r X fo_q197 dX1_deeds_58 h (fun v58 h => ?_)
    refine zv_aload X 0 dX1_deeds_61 rfl ?_
    refine zv_ci ((zr_Vl X (As := [va_rf (some v6)]) (rest := []) h (fun a h => wk_J2_add l h) (zk_l1 ⟨_, rfl, cwV 1 X.hts (lw_V q358 q226 q227 q106 q228) rfl rfl rfl ⟨rfl, md_J2_add⟩ ⟨Nat.le_of_ble_eq_true rfl, Nat.le_of_ble_eq_true rfl⟩⟩) rfl rfl (zk_rs (Nat.le_of_ble_eq_true rfl)) dX1_deeds_63 ⟨by first | exact Nat.le_of_ble_eq_true rfl | omega | (dsimp only; omega), by first | exact Nat.le_of_ble_eq_true rfl | omega | (dsimp only; omega)⟩)) (fun v63 P63 h => ?_)
    refine zv_pop X dX1_deeds_66 rfl ?_
    exact zv_vret X rfl (by first | exact Nat.le_of_ble_eq_true rfl | omega | (dsimp only; omega)) (by first | exact Nat.le_of_ble_eq_true rfl | omega | (dsimp only; omega)) dX1_deeds_67 h
  · refine zv_aload_n X 2 dX1_deeds_32 rfl ?_
    refine zv_getf_r X fo_q197 dX1_deeds_33 h (fun v33 h => ?_)
    refine zv_aload_n X 2 dX1_deeds_36 rfl ?_
    refine zv_getf_r X fo_q197 dX1_deeds_37 h (fun v37 h => ?_)
    refine zv_aload_n X 1 dX1_deeds_40 rfl ?_
    refine zv_ciR ((zr_Vl X (As := [va_rf (v2)]) (rest := [va_rf (v33)]) h (fun a h => wk_J2_indexOf l h) (zk_l1 ⟨_, rfl, cwV 1 X.hts (lw_V q1265 q1127 q1128 q106 q1129) rfl rfl rfl ⟨rfl, md_J2_indexOf⟩ ⟨Nat.le_of_ble_eq_true rfl, Nat.le_of_ble_eq_true rfl⟩⟩) rfl rfl (zk_rs (Nat.le_of_ble_eq_true rfl)) dX1_deeds_41 ⟨by first | exact Nat.le_of_ble_eq_true rfl | omega | (dsimp only; omega), by first | exact Nat.le_of_ble_eq_true rfl | omega | (dsimp only; omega)⟩)) (fun v41 h => ?_)
    refine zv_aload X 0 dX1_deeds_44 rfl ?_
    refine zv_cq ((zr_Vl X (As := [.int (v41), va_rf (some v6)]) (rest := []) h (fun a h => wk_J2_set l h) (zk_l1 ⟨_, rfl, cwV 2 X.hts (lw_V q1266 q1267 q1268 q106 q1269) rfl rfl rfl ⟨rfl, md_J2_set⟩ ⟨Nat.le_of_ble_eq_true rfl, Nat.le_of_ble_eq_true rfl⟩⟩) rfl rfl (zk_rs (Nat.le_of_ble_eq_true rfl)) dX1_deeds_46 ⟨by first | exact Nat.le_of_ble_eq_true rfl | omega | (dsimp only; omega), by first | exact Nat.le_of_ble_eq_true rfl | omega | (dsimp only; omega)⟩)) (fun v46 P46 h => ?_)
    refine zv_cast X zk_cs5 q359 dX1_deeds_49 h (fun h => ?_)
    refine zv_astore X (L' := [(5, va_rf (v46)), (4, va_rf (some v6)), (3, va_rf (v2)), (0, va_rf (some this)), (1, .int (x1)), (2, va_rf (x2))]) dX1_deeds_52 (by decide) rfl ?_
    refine zv_goto X (tgt := 67) dX1_deeds_54 (by decide) ?_
    exact zv_vret X rfl (by first | exact Nat.le_of_ble_eq_true rfl | omega | (dsimp only; omega)) (by first | exact Nat.le_of_ble_eq_true rfl | omega | (dsimp only; omega)) dX1_deeds_67 h
theorem md_X1_gives : yX1_gives.cls ≠ "java/lang/invoke/MethodHandle" ∧ yX1_gives.cls ≠ "java/lang/invoke/VarHandle" ∧ (parseMethodDescriptor yX1_gives.desc).map (fun d => d.parameters.length) = some 4 := by decide +kernel
theorem wk_X1_gives (l : Launch) {D : zk_G} {g : zk_M} {b0 : Nat} {post : zk_H → Prop} {this : Nat} {x1 : Int32} {x2 : Int32} {x3 : Int32} {x4 : Int32} {P : zk_H} (hh : wp_X1_gives g post this x1 x2 x3 x4 P) : Met l yX1_gives (ws_ yX1_gives cX1_gives 6 none) ({ frames := 8, cells := 3, slots := 105, locals := 196 } : Room) (va_Pc [.ref this, .int (x1), .int (x2), .int (x3), .int (x4)] (zk_pre D g b0 P)) (va_Qv post (zk_B D b0) (zk_A b0)) 3 105 (zk_A b0) := by
  refine zk_enter "LandFolio$Folio" "gives" rfl rfl (plainFor_of_name (by decide)) [.ref this, .int (x1), .int (x2), .int (x3), .int (x4)] (Nat.le_of_ble_eq_true rfl) ?_
  intro p e s m args below meth c X
  refine zk_at0 (L' := [(0, va_rf (some this)), (1, .int (x1)), (2, .int (x2)), (3, .int (x3)), (4, .int (x4))]) (rfl) ?_
  have h := hh
  unfold wp_X1_gives at h
  refine zv_aload_n X 0 dX1_gives_0 rfl ?_
  refine zv_iload_n X 1 dX1_gives_1 rfl ?_
  refine zv_cqR ((zr_Vl X (As := [.int (x1)]) (rest := []) h (fun a h => wk_X1_deed l h) (zk_l1 ⟨_, rfl, cwV 1 X.hts (lw_V q1189 q1190 q1191 q103 q1192) rfl rfl rfl ⟨rfl, md_X1_deed⟩ ⟨Nat.le_of_ble_eq_true rfl, Nat.le_of_ble_eq_true rfl⟩⟩) rfl rfl (zk_rs (Nat.le_of_ble_eq_true rfl)) dX1_gives_2 ⟨by first | exact Nat.le_of_ble_eq_true rfl | omega | (dsimp only; omega), by first | exact Nat.le_of_ble_eq_true rfl | omega | (dsimp only; omega)⟩)) (fun v2 h => ?_)
  refine zv_getf_r X fo_q375 dX1_gives_5 h (fun v5 h => ?_)
  refine zv_clone X (ty := .int) (by decide +kernel) (by decide) q1197 q1198 q1199 (zk_nwm q1200 rfl) ⟨by first | decide | (dsimp only; decide), by first | decide | (dsimp only; decide)⟩ (zk_rs (Nat.le_of_ble_eq_true rfl)) (by first | exact Nat.le_of_ble_eq_true rfl | omega | (dsimp only; omega)) (by first | exact Nat.le_of_ble_eq_true rfl | omega | (dsimp only; omega)) dX1_gives_8 h (fun v8 P8 h => ?_)
  refine zv_castA X (ty := .int) (by decide +kernel) q1201 dX1_gives_11 h (fun h => ?_)
  refine zv_astore X (L' := [(5, va_rf (some v8)), (0, va_rf (some this)), (1, .int (x1)), (2, .int (x2)), (3, .int (x3)), (4, .int (x4))]) dX1_gives_14 (by decide) rfl ?_
  refine zv_aload X 0 dX1_gives_16 rfl ?_
  refine zv_iload_n X 3 dX1_gives_18 rfl ?_
  refine zv_dup2 X dX1_gives_19 rfl (zk_rc _) ?_
  refine zv_iald X dX1_gives_20 h (fun v20 h => ?_)
  refine zv_iload X 5 dX1_gives_21 rfl ?_
  refine zv_isub X dX1_gives_23 ?_
  refine zv_iast X dX1_gives_24 h (fun P24 h => ?_)
  refine zv_aload X 0 dX1_gives_25 rfl ?_
  refine zv_iload_n X 4 dX1_gives_27 rfl ?_
  refine zv_dup2 X dX1_gives_28 rfl (zk_rc _) ?_
  refine zv_iald X dX1_gives_29 h (fun v29 h => ?_)
  refine zv_iload X 5 dX1_gives_30 rfl ?_
  refine zv_iadd X dX1_gives_32 ?_
  refine zv_iast X dX1_gives_33 h (fun P33 h => ?_)
  refine zv_aload_n X 1 dX1_gives_34 rfl ?_
  refine zv_iload_n X 2 dX1_gives_35 rfl ?_
  refine zv_aload X 0 dX1_gives_36 rfl ?_
  refine zv_cv ((zr_Vl X (As := [.int (x1), va_rf (some v8)]) (rest := []) h (fun a h => wk_X1_deeds l h) (zk_l1 ⟨_, rfl, cwV 2 X.hts (lw_V q1261 q1262 q1263 q103 q1264) rfl rfl rfl ⟨rfl, md_X1_deeds⟩ ⟨Nat.le_of_ble_eq_true rfl, Nat.le_of_ble_eq_true rfl⟩⟩) rfl rfl (zk_rs (Nat.le_of_ble_eq_true rfl)) dX1_gives_38 ⟨by first | exact Nat.le_of_ble_eq_true rfl | omega | (dsimp only; omega), by first | exact Nat.le_of_ble_eq_true rfl | omega | (dsimp only; omega)⟩)) (fun P38 h => ?_)
  exact zv_vret X rfl (by first | exact Nat.le_of_ble_eq_true rfl | omega | (dsimp only; omega)) (by first | exact Nat.le_of_ble_eq_true rfl | omega | (dsimp only; omega)) dX1_gives_41 h
theorem kj_X0_give_103 {p : Program} {l : Launch} {e : Env} {s : State} {m : MethodId} {args : Array Value} {below : List Frame} {meth : Method} {c : Code} {D : zk_G} {g : zk_M} {b0 : Nat} (X : zk_X p s m args meth c D g b0 cX0_give 6 "LandFolio" "give" (some Jvm.ClassFile.FieldType.int)) {post : Int32 → zk_H → Prop}  {a0 : Option Nat} {a1 : Int32} {a2 : Int32} {a3 : Int32} {a4 : Int32} {P : zk_H}    (hh : wj_X0_give_103 g post a0 a1 a2 a3 a4 P) : zV p l e ({ frames := 9, cells := 183, slots := 7335, locals := 221 } : Room) s m args below meth c D b0 6 (0) (0) (MQ below (va_Qi post (zk_B D b0) (zk_A b0)) args s 183 7335 (zk_A b0)) P 103 [(0, va_rf (a0)), (1, .int (a1)), (2, .int (a2)), (3, .int (a3)), (4, .int (a4))] [] := by
  have h := hh
  unfold wj_X0_give_103 at h
  refine zv_aload_n X 0 dX0_give_103 rfl ?_
  refine zv_getf_r X fo_q402 dX0_give_104 h (fun v104 h => ?_)
  refine zv_cq ((zr_Vl X (As := []) (rest := []) h (fun a h => wk_X1_copied l h) (zk_l1 ⟨_, rfl, cwV 0 X.hts (lw_V q465 q466 q467 q103 q468) rfl rfl rfl ⟨rfl, md_X1_copied⟩ ⟨Nat.le_of_ble_eq_true rfl, Nat.le_of_ble_eq_true rfl⟩⟩) rfl rfl (zk_rs (Nat.le_of_ble_eq_true rfl)) dX0_give_107 ⟨by first | exact Nat.le_of_ble_eq_true rfl | omega | (dsimp only; omega), by first | exact Nat.le_of_ble_eq_true rfl | omega | (dsimp only; omega)⟩)) (fun v107 P107 h => ?_)
  refine zv_astore X (L' := [(5, va_rf (v107)), (0, va_rf (a0)), (1, .int (a1)), (2, .int (a2)), (3, .int (a3)), (4, .int (a4))]) dX0_give_110 (by decide) rfl ?_
  refine zv_aload_n X 1 dX0_give_112 rfl ?_
  refine zv_getf_r X fo_q402 dX0_give_113 h (fun v113 h => ?_)
  refine zv_iload_n X 2 dX0_give_116 rfl ?_
  refine zv_iload_n X 3 dX0_give_117 rfl ?_
  refine zv_iload_n X 4 dX0_give_118 rfl ?_
  refine zv_iload X 5 dX0_give_119 rfl ?_
  refine zv_cv ((zr_Vl X (As := [.int (a1), .int (a2), .int (a3), .int (a4)]) (rest := []) h (fun a h => wk_X1_gives l h) (zk_l1 ⟨_, rfl, cwV 4 X.hts (lw_V q1465 q1258 q1259 q103 q1260) rfl rfl rfl ⟨rfl, md_X1_gives⟩ ⟨Nat.le_of_ble_eq_true rfl, Nat.le_of_ble_eq_true rfl⟩⟩) rfl rfl (zk_rs (Nat.le_of_ble_eq_true rfl)) dX0_give_121 ⟨by first | exact Nat.le_of_ble_eq_true rfl | omega | (dsimp only; omega), by first | exact Nat.le_of_ble_eq_true rfl | omega | (dsimp only; omega)⟩)) (fun P121 h => ?_)
  refine zv_aload_n X 1 dX0_give_124 rfl ?_
  refine zv_getf_r X fo_q402 dX0_give_125 h (fun v125 h => ?_)
  refine zv_iconst X (v := 3) dX0_give_128 rfl ?_
  refine zv_iload_n X 2 dX0_give_129 rfl ?_
  refine zv_bipush X (v := 100) dX0_give_130 rfl ?_
  refine zv_iload_n X 3 dX0_give_132 rfl ?_
  refine zv_imul X dX0_give_133 ?_
  refine zv_iload_n X 4 dX0_give_134 rfl ?_
  refine zv_iadd X dX0_give_135 ?_
  refine zv_cv ((zr_Vl X (As := [.int (3), .int (a1), .int (((100 : Int32) * a2) + a3)]) (rest := []) h (fun a h => wk_X1_logs l h) (zk_l1 ⟨_, rfl, cwV 3 X.hts (lw_V q1318 q1319 q1320 q103 q1321) rfl rfl rfl ⟨rfl, md_X1_logs⟩ ⟨Nat.le_of_ble_eq_true rfl, Nat.le_of_ble_eq_true rfl⟩⟩) rfl rfl (zk_rs (Nat.le_of_ble_eq_true rfl)) dX0_give_136 ⟨by first | exact Nat.le_of_ble_eq_true rfl | omega | (dsimp only; omega), by first | exact Nat.le_of_ble_eq_true rfl | omega | (dsimp only; omega)⟩)) (fun P136 h => ?_)
  refine zv_aload_n X 1 dX0_give_139 rfl ?_
  refine zv_aload X 0 dX0_give_140 rfl ?_
  refine zv_aload_n X 1 dX0_give_142 rfl ?_
  refine zv_getf_r X fo_q402 dX0_give_143 h (fun v143 h => ?_)
  refine zv_iload_n X 2 dX0_give_146 rfl ?_
  refine zv_cqR ((zr_Vl X (As := [.int (a1)]) (rest := [va_rf (v107), va_rf (a0)]) h (fun a h => wk_X1_deed l h) (zk_l1 ⟨_, rfl, cwV 1 X.hts (lw_V q1460 q1190 q1191 q103 q1192) rfl rfl rfl ⟨rfl, md_X1_deed⟩ ⟨Nat.le_of_ble_eq_true rfl, Nat.le_of_ble_eq_true rfl⟩⟩) rfl rfl (zk_rs (Nat.le_of_ble_eq_true rfl)) dX0_give_147 ⟨by first | exact Nat.le_of_ble_eq_true rfl | omega | (dsimp only; omega), by first | exact Nat.le_of_ble_eq_true rfl | omega | (dsimp only; omega)⟩)) (fun v147 h => ?_)
  refine zv_getf_r X fo_q376 dX0_give_150 h (fun v150 h => ?_)
  refine zv_iload_n X 4 dX0_give_153 rfl ?_
  refine zv_iald X dX0_give_154 h (fun v154 h => ?_)
  refine zv_ci ((zr_Vl X (As := [va_rf (v107), .int (v154)]) (rest := []) h (fun a h => wk_X0_done l h) (zk_l1 ⟨_, rfl, cwV 2 X.hts (lw_V q677 q679 qs7 q102 q680) rfl rfl rfl ⟨rfl, md_X0_done⟩ ⟨Nat.le_of_ble_eq_true rfl, Nat.le_of_ble_eq_true rfl⟩⟩) rfl rfl (zk_rs (Nat.le_of_ble_eq_true rfl)) dX0_give_155 ⟨by first | exact Nat.le_of_ble_eq_true rfl | omega | (dsimp only; omega), by first | exact Nat.le_of_ble_eq_true rfl | omega | (dsimp only; omega)⟩)) (fun v155 P155 h => ?_)
  exact zv_iret X rfl (by first | exact Nat.le_of_ble_eq_true rfl | omega | (dsimp only; omega)) (by first | exact Nat.le_of_ble_eq_true rfl | omega | (dsimp only; omega)) dX0_give_158 h
theorem md_X0_give : yX0_give.cls ≠ "java/lang/invoke/MethodHandle" ∧ yX0_give.cls ≠ "java/lang/invoke/VarHandle" ∧ (parseMethodDescriptor yX0_give.desc).map (fun d => d.parameters.length) = some 4 := by decide +kernel
theorem wk_X0_give (l : Launch) {D : zk_G} {g : zk_M} {b0 : Nat} {post : Int32 → zk_H → Prop} {this : Nat} {x1 : Int32} {x2 : Int32} {x3 : Int32} {x4 : Int32} {P : zk_H} (hh : wp_X0_give g post this x1 x2 x3 x4 P) : Met l yX0_give (ws_ yX0_give cX0_give 6 (some Jvm.ClassFile.FieldType.int)) ({ frames := 9, cells := 183, slots := 7335, locals := 221 } : Room) (va_Pc [.ref this, .int (x1), .int (x2), .int (x3), .int (x4)] (zk_pre D g b0 P)) (va_Qi post (zk_B D b0) (zk_A b0)) 183 7335 (zk_A b0) := by
  refine zk_enter "LandFolio" "give" rfl rfl (plainFor_of_name (by decide)) [.ref this, .int (x1), .int (x2), .int (x3), .int (x4)] (Nat.le_of_ble_eq_true rfl) ?_
  intro p e s m args below meth c X
  refine zk_at0 (L' := [(0, va_rf (some this)), (1, .int (x1)), (2, .int (x2)), (3, .int (x3)), (4, .int (x4))]) (rfl) ?_
  have h := hh
  unfold wp_X0_give at h
  refine zv_aload_n X 0 dX0_give_0 rfl ?_
  refine zv_iload_n X 1 dX0_give_1 rfl ?_
  refine zv_ciR ((zr_Vl X (As := [.int (x1)]) (rest := []) h (fun a h => wk_X0_isParcel l h) (zk_l1 ⟨_, rfl, cwV 1 X.hts (lw_V q1364 q1366 qs33 q102 q1367) rfl rfl rfl ⟨rfl, md_X0_isParcel⟩ ⟨Nat.le_of_ble_eq_true rfl, Nat.le_of_ble_eq_true rfl⟩⟩) rfl rfl (zk_rs (Nat.le_of_ble_eq_true rfl)) dX0_give_2 ⟨by first | exact Nat.le_of_ble_eq_true rfl | omega | (dsimp only; omega), by first | exact Nat.le_of_ble_eq_true rfl | omega | (dsimp only; omega)⟩)) (fun v2 h => ?_)
  refine zv_if_eq X (tgt := 40) dX0_give_5 (by decide) h (fun h => ?_) (fun h => ?_)
  · refine zv_iconst X (v := -1) dX0_give_40 rfl ?_
    exact zv_iret X rfl (by first | exact Nat.le_of_ble_eq_true rfl | omega | (dsimp only; omega)) (by first | exact Nat.le_of_ble_eq_true rfl | omega | (dsimp only; omega)) dX0_give_41 h
  · refine zv_aload_n X 0 dX0_give_8 rfl ?_
    refine zv_iload_n X 2 dX0_give_9 rfl ?_
    refine zv_ciR ((zr_Vl X (As := [.int (x2)]) (rest := []) h (fun a h => wk_X0_isOwner l h) (zk_l1 ⟨_, rfl, cwV 1 X.hts (lw_V q1350 q1352 qs31 q102 q1353) rfl rfl rfl ⟨rfl, md_X0_isOwner⟩ ⟨Nat.le_of_ble_eq_true rfl, Nat.le_of_ble_eq_true rfl⟩⟩) rfl rfl (zk_rs (Nat.le_of_ble_eq_true rfl)) dX0_give_10 ⟨by first | exact Nat.le_of_ble_eq_true rfl | omega | (dsimp only; omega), by first | exact Nat.le_of_ble_eq_true rfl | omega | (dsimp only; omega)⟩)) (fun v10 h => ?_)
    refine zv_if_eq X (tgt := 40) dX0_give_13 (by decide) h (fun h => ?_) (fun h => ?_)
    · refine zv_iconst X (v := -1) dX0_give_40 rfl ?_
      exact zv_iret X rfl (by first | exact Nat.le_of_ble_eq_true rfl | omega | (dsimp only; omega)) (by first | exact Nat.le_of_ble_eq_true rfl | omega | (dsimp only; omega)) dX0_give_41 h
    · refine zv_aload_n X 0 dX0_give_16 rfl ?_
      refine zv_iload_n X 3 dX0_give_17 rfl ?_
      refine zv_ciR ((zr_Vl X (As := [.int (x3)]) (rest := []) h (fun a h => wk_X0_isOwner l h) (zk_l1 ⟨_, rfl, cwV 1 X.hts (lw_V q1350 q1352 qs31 q102 q1353) rfl rfl rfl ⟨rfl, md_X0_isOwner⟩ ⟨Nat.le_of_ble_eq_true rfl, Nat.le_of_ble_eq_true rfl⟩⟩) rfl rfl (zk_rs (Nat.le_of_ble_eq_true rfl)) dX0_give_18 ⟨by first | exact Nat.le_of_ble_eq_true rfl | omega | (dsimp only; omega), by first | exact Nat.le_of_ble_eq_true rfl | omega | (dsimp only; omega)⟩)) (fun v18 h => ?_)
      refine zv_if_eq X (tgt := 40) dX0_give_21 (by decide) h (fun h => ?_) (fun h => ?_)
      · refine zv_iconst X (v := -1) dX0_give_40 rfl ?_
        exact zv_iret X rfl (by first | exact Nat.le_of_ble_eq_true rfl | omega | (dsimp only; omega)) (by first | exact Nat.le_of_ble_eq_true rfl | omega | (dsimp only; omega)) dX0_give_41 h
      · refine zv_iload_n X 2 dX0_give_24 rfl ?_
        refine zv_iload_n X 3 dX0_give_25 rfl ?_
        refine zv_icmp_eq X (tgt := 40) dX0_give_26 (by decide) h (fun h => ?_) (fun h => ?_)
        · refine zv_iconst X (v := -1) dX0_give_40 rfl ?_
          exact zv_iret X rfl (by first | exact Nat.le_of_ble_eq_true rfl | omega | (dsimp only; omega)) (by first | exact Nat.le_of_ble_eq_true rfl | omega | (dsimp only; omega)) dX0_give_41 h
        · refine zv_iload X 4 dX0_give_29 rfl ?_
          refine zv_iconst X (v := 1) dX0_give_31 rfl ?_
          refine zv_bipush X (v := 12) dX0_give_32 rfl ?_
          refine zv_ciR ((zr_S X (As := [.int (x4), .int (1), .int (12)]) (rest := []) (wk_X0_isIn l h) (va_cwS 3 X.hts (lw_S q462 q463 q102 q464) rfl rfl rfl md_X0_isIn ⟨Nat.le_of_ble_eq_true rfl, Nat.le_of_ble_eq_true rfl⟩) rfl rfl (zk_rs (Nat.le_of_ble_eq_true rfl)) dX0_give_34 ⟨by first | exact Nat.le_of_ble_eq_true rfl | omega | (dsimp only; omega), by first | exact Nat.le_of_ble_eq_true rfl | omega | (dsimp only; omega)⟩)) (fun v34 h => ?_)
          refine zv_if_ne X (tgt := 42) dX0_give_37 (by decide) h (fun h => ?_) (fun h => ?_)
          · refine zv_aload_n X 0 dX0_give_42 rfl ?_
            refine zv_getf_r X fo_q402 dX0_give_43 h (fun v43 h => ?_)
            refine zv_iload_n X 1 dX0_give_46 rfl ?_
            refine zv_ciR ((zr_Vl X (As := [.int (x1)]) (rest := []) h (fun a h => wk_X1_isFree l h) (zk_l1 ⟨_, rfl, cwV 1 X.hts (lw_V q1373 q1374 q1375 q103 q1376) rfl rfl rfl ⟨rfl, md_X1_isFree⟩ ⟨Nat.le_of_ble_eq_true rfl, Nat.le_of_ble_eq_true rfl⟩⟩) rfl rfl (zk_rs (Nat.le_of_ble_eq_true rfl)) dX0_give_47 ⟨by first | exact Nat.le_of_ble_eq_true rfl | omega | (dsimp only; omega), by first | exact Nat.le_of_ble_eq_true rfl | omega | (dsimp only; omega)⟩)) (fun v47 h => ?_)
            refine zv_if_eq X (tgt := 71) dX0_give_50 (by decide) h (fun h => ?_) (fun h => ?_)
            · refine zv_bipush X (v := -4) dX0_give_71 rfl ?_
              exact zv_iret X rfl (by first | exact Nat.le_of_ble_eq_true rfl | omega | (dsimp only; omega)) (by first | exact Nat.le_of_ble_eq_true rfl | omega | (dsimp only; omega)) dX0_give_73 h
            · refine zv_aload_n X 0 dX0_give_53 rfl ?_
              refine zv_getf_r X fo_q402 dX0_give_54 h (fun v54 h => ?_)
              refine zv_iload_n X 1 dX0_give_57 rfl ?_
              refine zv_cqR ((zr_Vl X (As := [.int (x1)]) (rest := []) h (fun a h => wk_X1_deed l h) (zk_l1 ⟨_, rfl, cwV 1 X.hts (lw_V q1460 q1190 q1191 q103 q1192) rfl rfl rfl ⟨rfl, md_X1_deed⟩ ⟨Nat.le_of_ble_eq_true rfl, Nat.le_of_ble_eq_true rfl⟩⟩) rfl rfl (zk_rs (Nat.le_of_ble_eq_true rfl)) dX0_give_58 ⟨by first | exact Nat.le_of_ble_eq_true rfl | omega | (dsimp only; omega), by first | exact Nat.le_of_ble_eq_true rfl | omega | (dsimp only; omega)⟩)) (fun v58 h => ?_)
              refine zv_getf_r X fo_q376 dX0_give_61 h (fun v61 h => ?_)
              refine zv_iload_n X 2 dX0_give_64 rfl ?_
              refine zv_iald X dX0_give_65 h (fun v65 h => ?_)
              refine zv_iload X 4 dX0_give_66 rfl ?_
              refine zv_icmp_ge X (tgt := 74) dX0_give_68 (by decide) h (fun h => ?_) (fun h => ?_)
              · refine zv_aload_n X 0 dX0_give_74 rfl ?_
                refine zv_getf_r X fo_q402 dX0_give_75 h (fun v75 h => ?_)
                refine zv_iload_n X 1 dX0_give_78 rfl ?_
                refine zv_ciR ((zr_Vl X (As := [.int (x1)]) (rest := []) h (fun a h => wk_X1_needsDeed l h) (zk_l1 ⟨_, rfl, cwV 1 X.hts (lw_V q1461 q1462 q1463 q103 q1464) rfl rfl rfl ⟨rfl, md_X1_needsDeed⟩ ⟨Nat.le_of_ble_eq_true rfl, Nat.le_of_ble_eq_true rfl⟩⟩) rfl rfl (zk_rs (Nat.le_of_ble_eq_true rfl)) dX0_give_79 ⟨by first | exact Nat.le_of_ble_eq_true rfl | omega | (dsimp only; omega), by first | exact Nat.le_of_ble_eq_true rfl | omega | (dsimp only; omega)⟩)) (fun v79 h => ?_)
                refine zv_if_eq X (tgt := 103) dX0_give_82 (by decide) h (fun h => ?_) (fun h => ?_)
                · refine zv_widen (c2 := 0) (s2 := 0) (by first | exact Nat.le_of_ble_eq_true rfl | omega | (dsimp only; omega)) (by first | exact Nat.le_of_ble_eq_true rfl | omega | (dsimp only; omega)) ?_
                  exact kj_X0_give_103 X  h
                · refine zv_aload_n X 0 dX0_give_85 rfl ?_
                  refine zv_getf_r X fo_q402 dX0_give_86 h (fun v86 h => ?_)
                  refine zv_getf_r X fo_q198 dX0_give_89 h (fun v89 h => ?_)
                  refine zv_ciR ((zr_Vl X (As := []) (rest := []) h (fun a h => wk_J2_size l h) (zk_l1 ⟨_, rfl, cwV 0 X.hts (lw_V q672 q362 q363 q106 q364) rfl rfl rfl ⟨rfl, md_J2_size⟩ ⟨Nat.le_of_ble_eq_true rfl, Nat.le_of_ble_eq_true rfl⟩⟩) rfl rfl (zk_rs (Nat.le_of_ble_eq_true rfl)) dX0_give_92 ⟨by first | exact Nat.le_of_ble_eq_true rfl | omega | (dsimp only; omega), by first | exact Nat.le_of_ble_eq_true rfl | omega | (dsimp only; omega)⟩)) (fun v92 h => ?_)
                  refine zv_bipush X (v := 60) dX0_give_95 rfl ?_
                  refine zv_icmp_ne X (tgt := 103) dX0_give_97 (by decide) h (fun h => ?_) (fun h => ?_)
                  · refine zv_widen (c2 := 0) (s2 := 0) (by first | exact Nat.le_of_ble_eq_true rfl | omega | (dsimp only; omega)) (by first | exact Nat.le_of_ble_eq_true rfl | omega | (dsimp only; omega)) ?_
                    exact kj_X0_give_103 X  h
                  · refine zv_bipush X (v := -3) dX0_give_100 rfl ?_
                    exact zv_iret X rfl (by first | exact Nat.le_of_ble_eq_true rfl | omega | (dsimp only; omega)) (by first | exact Nat.le_of_ble_eq_true rfl | omega | (dsimp only; omega)) dX0_give_102 h
              · refine zv_bipush X (v := -4) dX0_give_71 rfl ?_
                exact zv_iret X rfl (by first | exact Nat.le_of_ble_eq_true rfl | omega | (dsimp only; omega)) (by first | exact Nat.le_of_ble_eq_true rfl | omega | (dsimp only; omega)) dX0_give_73 h
          · refine zv_iconst X (v := -1) dX0_give_40 rfl ?_
            exact zv_iret X rfl (by first | exact Nat.le_of_ble_eq_true rfl | omega | (dsimp only; omega)) (by first | exact Nat.le_of_ble_eq_true rfl | omega | (dsimp only; omega)) dX0_give_41 h
theorem md_X1_burdens : yX1_burdens.cls ≠ "java/lang/invoke/MethodHandle" ∧ yX1_burdens.cls ≠ "java/lang/invoke/VarHandle" ∧ (parseMethodDescriptor yX1_burdens.desc).map (fun d => d.parameters.length) = some 2 := by decide +kernel
theorem wk_X1_burdens (l : Launch) {D : zk_G} {g : zk_M} {b0 : Nat} {post : zk_H → Prop} {this : Nat} {x1 : Option Nat} {x2 : Int32} {P : zk_H} (hh : wp_X1_burdens g post this x1 x2 P) : Met l yX1_burdens (ws_ yX1_burdens cX1_burdens 3 none) ({ frames := 7, cells := 1, slots := 96, locals := 171 } : Room) (va_Pc [.ref this, va_rf (x1), .int (x2)] (zk_pre D g b0 P)) (va_Qv post (zk_B D b0) (zk_A b0)) 1 96 (zk_A b0) := by
  refine zk_enter "LandFolio$Folio" "burdens" rfl rfl (plainFor_of_name (by decide)) [.ref this, va_rf (x1), .int (x2)] (by cases x1 <;> exact Nat.le_of_ble_eq_true rfl) ?_
  intro p e s m args below meth c X
  refine zk_at0 (L' := [(0, va_rf (some this)), (1, va_rf (x1)), (2, .int (x2))]) (by cases x1 <;> rfl) ?_
  have h := hh
  unfold wp_X1_burdens at h
  refine zv_aload_n X 0 dX1_burdens_0 rfl ?_
  refine zv_getf_r X fo_q199 dX1_burdens_1 h (fun v1 h => ?_)
  refine zv_aload_n X 1 dX1_burdens_4 rfl ?_
  refine zv_ci ((zr_Vl X (As := [va_rf (x1)]) (rest := []) h (fun a h => wk_J2_add l h) (zk_l1 ⟨_, rfl, cwV 1 X.hts (lw_V q358 q226 q227 q106 q228) rfl rfl rfl ⟨rfl, md_J2_add⟩ ⟨Nat.le_of_ble_eq_true rfl, Nat.le_of_ble_eq_true rfl⟩⟩) rfl rfl (zk_rs (Nat.le_of_ble_eq_true rfl)) dX1_burdens_5 ⟨by first | exact Nat.le_of_ble_eq_true rfl | omega | (dsimp only; omega), by first | exact Nat.le_of_ble_eq_true rfl | omega | (dsimp only; omega)⟩)) (fun v5 P5 h => ?_)
  refine zv_pop X dX1_burdens_8 rfl ?_
  refine zv_aload_n X 1 dX1_burdens_9 rfl ?_
  refine zv_getf_r X fo_q600 dX1_burdens_10 h (fun v10 h => ?_)
  refine zv_iload_n X 2 dX1_burdens_13 rfl ?_
  refine zv_cv ((zr_Vl X (As := [.int (x2)]) (rest := []) h (fun a h => wk_J16_set l h) (zk_l1 ⟨_, rfl, cwV 1 X.hts (lw_V q1225 q1226 q1227 q126 q1228) rfl rfl rfl ⟨rfl, md_J16_set⟩ ⟨Nat.le_of_ble_eq_true rfl, Nat.le_of_ble_eq_true rfl⟩⟩) rfl rfl (zk_rs (Nat.le_of_ble_eq_true rfl)) dX1_burdens_14 ⟨by first | exact Nat.le_of_ble_eq_true rfl | omega | (dsimp only; omega), by first | exact Nat.le_of_ble_eq_true rfl | omega | (dsimp only; omega)⟩)) (fun P14 h => ?_)
  exact zv_vret X rfl (by first | exact Nat.le_of_ble_eq_true rfl | omega | (dsimp only; omega)) (by first | exact Nat.le_of_ble_eq_true rfl | omega | (dsimp only; omega)) dX1_burdens_17 h
theorem md_X0_debt : yX0_debt.cls ≠ "java/lang/invoke/MethodHandle" ∧ yX0_debt.cls ≠ "java/lang/invoke/VarHandle" ∧ (parseMethodDescriptor yX0_debt.desc).map (fun d => d.parameters.length) = some 3 := by decide +kernel
theorem wk_X0_debt (l : Launch) {D : zk_G} {g : zk_M} {b0 : Nat} {post : Int32 → zk_H → Prop} {this : Nat} {x1 : Int32} {x2 : Int32} {x3 : Int32} {P : zk_H} (hh : wp_X0_debt g post this x1 x2 x3 P) : Met l yX0_debt (ws_ yX0_debt cX0_debt 6 (some Jvm.ClassFile.FieldType.int)) ({ frames := 8, cells := 184, slots := 7336, locals := 195 } : Room) (va_Pc [.ref this, .int (x1), .int (x2), .int (x3)] (zk_pre D g b0 P)) (va_Qi post (zk_B D b0) (zk_A b0)) 184 7336 (zk_A b0) := by
  refine zk_enter "LandFolio" "debt" rfl rfl (plainFor_of_name (by decide)) [.ref this, .int (x1), .int (x2), .int (x3)] (Nat.le_of_ble_eq_true rfl) ?_
  intro p e s m args below meth c X
  refine zk_at0 (L' := [(0, va_rf (some this)), (1, .int (x1)), (2, .int (x2)), (3, .int (x3))]) (rfl) ?_
  have h := hh
  unfold wp_X0_debt at h
  refine zv_aload_n X 0 dX0_debt_0 rfl ?_
  refine zv_iload_n X 1 dX0_debt_1 rfl ?_
  refine zv_ciR ((zr_Vl X (As := [.int (x1)]) (rest := []) h (fun a h => wk_X0_isParcel l h) (zk_l1 ⟨_, rfl, cwV 1 X.hts (lw_V q1364 q1366 qs33 q102 q1367) rfl rfl rfl ⟨rfl, md_X0_isParcel⟩ ⟨Nat.le_of_ble_eq_true rfl, Nat.le_of_ble_eq_true rfl⟩⟩) rfl rfl (zk_rs (Nat.le_of_ble_eq_true rfl)) dX0_debt_2 ⟨by first | exact Nat.le_of_ble_eq_true rfl | omega | (dsimp only; omega), by first | exact Nat.le_of_ble_eq_true rfl | omega | (dsimp only; omega)⟩)) (fun v2 h => ?_)
  refine zv_if_eq X (tgt := 27) dX0_debt_5 (by decide) h (fun h => ?_) (fun h => ?_)
  · refine zv_iconst X (v := -1) dX0_debt_27 rfl ?_
    exact zv_iret X rfl (by first | exact Nat.le_of_ble_eq_true rfl | omega | (dsimp only; omega)) (by first | exact Nat.le_of_ble_eq_true rfl | omega | (dsimp only; omega)) dX0_debt_28 h
  · refine zv_aload_n X 0 dX0_debt_8 rfl ?_
    refine zv_iload_n X 2 dX0_debt_9 rfl ?_
    refine zv_ciR ((zr_Vl X (As := [.int (x2)]) (rest := []) h (fun a h => wk_X0_isOwner l h) (zk_l1 ⟨_, rfl, cwV 1 X.hts (lw_V q1350 q1352 qs31 q102 q1353) rfl rfl rfl ⟨rfl, md_X0_isOwner⟩ ⟨Nat.le_of_ble_eq_true rfl, Nat.le_of_ble_eq_true rfl⟩⟩) rfl rfl (zk_rs (Nat.le_of_ble_eq_true rfl)) dX0_debt_10 ⟨by first | exact Nat.le_of_ble_eq_true rfl | omega | (dsimp only; omega), by first | exact Nat.le_of_ble_eq_true rfl | omega | (dsimp only; omega)⟩)) (fun v10 h => ?_)
    refine zv_if_eq X (tgt := 27) dX0_debt_13 (by decide) h (fun h => ?_) (fun h => ?_)
    · refine zv_iconst X (v := -1) dX0_debt_27 rfl ?_
      exact zv_iret X rfl (by first | exact Nat.le_of_ble_eq_true rfl | omega | (dsimp only; omega)) (by first | exact Nat.le_of_ble_eq_true rfl | omega | (dsimp only; omega)) dX0_debt_28 h
    · refine zv_iload_n X 3 dX0_debt_16 rfl ?_
      refine zv_iconst X (v := 1) dX0_debt_17 rfl ?_
      refine zv_sipush X (v := 9999) dX0_debt_18 rfl ?_
      refine zv_ciR ((zr_S X (As := [.int (x3), .int (1), .int (9999)]) (rest := []) (wk_X0_isIn l h) (va_cwS 3 X.hts (lw_S q462 q463 q102 q464) rfl rfl rfl md_X0_isIn ⟨Nat.le_of_ble_eq_true rfl, Nat.le_of_ble_eq_true rfl⟩) rfl rfl (zk_rs (Nat.le_of_ble_eq_true rfl)) dX0_debt_21 ⟨by first | exact Nat.le_of_ble_eq_true rfl | omega | (dsimp only; omega), by first | exact Nat.le_of_ble_eq_true rfl | omega | (dsimp only; omega)⟩)) (fun v21 h => ?_)
      refine zv_if_ne X (tgt := 29) dX0_debt_24 (by decide) h (fun h => ?_) (fun h => ?_)
      · refine zv_aload_n X 0 dX0_debt_29 rfl ?_
        refine zv_getf_r X fo_q402 dX0_debt_30 h (fun v30 h => ?_)
        refine zv_iload_n X 1 dX0_debt_33 rfl ?_
        refine zv_ciR ((zr_Vl X (As := [.int (x1)]) (rest := []) h (fun a h => wk_X1_isFree l h) (zk_l1 ⟨_, rfl, cwV 1 X.hts (lw_V q1373 q1374 q1375 q103 q1376) rfl rfl rfl ⟨rfl, md_X1_isFree⟩ ⟨Nat.le_of_ble_eq_true rfl, Nat.le_of_ble_eq_true rfl⟩⟩) rfl rfl (zk_rs (Nat.le_of_ble_eq_true rfl)) dX0_debt_34 ⟨by first | exact Nat.le_of_ble_eq_true rfl | omega | (dsimp only; omega), by first | exact Nat.le_of_ble_eq_true rfl | omega | (dsimp only; omega)⟩)) (fun v34 h => ?_)
        refine zv_if_ne X (tgt := 43) dX0_debt_37 (by decide) h (fun h => ?_) (fun h => ?_)
        · refine zv_aload_n X 0 dX0_debt_43 rfl ?_
          refine zv_getf_r X fo_q402 dX0_debt_44 h (fun v44 h => ?_)
          refine zv_getf_r X fo_q201 dX0_debt_47 h (fun v47 h => ?_)
          refine zv_ciR ((zr_Vl X (As := []) (rest := []) h (fun a h => wk_J2_size l h) (zk_l1 ⟨_, rfl, cwV 0 X.hts (lw_V q672 q362 q363 q106 q364) rfl rfl rfl ⟨rfl, md_J2_size⟩ ⟨Nat.le_of_ble_eq_true rfl, Nat.le_of_ble_eq_true rfl⟩⟩) rfl rfl (zk_rs (Nat.le_of_ble_eq_true rfl)) dX0_debt_50 ⟨by first | exact Nat.le_of_ble_eq_true rfl | omega | (dsimp only; omega), by first | exact Nat.le_of_ble_eq_true rfl | omega | (dsimp only; omega)⟩)) (fun v50 h => ?_)
          refine zv_bipush X (v := 20) dX0_debt_53 rfl ?_
          refine zv_icmp_ne X (tgt := 61) dX0_debt_55 (by decide) h (fun h => ?_) (fun h => ?_)
          · refine zv_aload_n X 0 dX0_debt_61 rfl ?_
            refine zv_getf_r X fo_q402 dX0_debt_62 h (fun v62 h => ?_)
            refine zv_cq ((zr_Vl X (As := []) (rest := []) h (fun a h => wk_X1_copied l h) (zk_l1 ⟨_, rfl, cwV 0 X.hts (lw_V q465 q466 q467 q103 q468) rfl rfl rfl ⟨rfl, md_X1_copied⟩ ⟨Nat.le_of_ble_eq_true rfl, Nat.le_of_ble_eq_true rfl⟩⟩) rfl rfl (zk_rs (Nat.le_of_ble_eq_true rfl)) dX0_debt_65 ⟨by first | exact Nat.le_of_ble_eq_true rfl | omega | (dsimp only; omega), by first | exact Nat.le_of_ble_eq_true rfl | omega | (dsimp only; omega)⟩)) (fun v65 P65 h => ?_)
            refine zv_astore X (L' := [(4, va_rf (v65)), (0, va_rf (some this)), (1, .int (x1)), (2, .int (x2)), (3, .int (x3))]) dX0_debt_68 (by decide) rfl ?_
            refine zv_aload_n X 1 dX0_debt_70 rfl ?_
            refine zv_getf_r X fo_q402 dX0_debt_71 h (fun v71 h => ?_)
            refine zv_getf_r X fo_q201 dX0_debt_74 h (fun v74 h => ?_)
            refine zv_ciR ((zr_Vl X (As := []) (rest := []) h (fun a h => wk_J2_size l h) (zk_l1 ⟨_, rfl, cwV 0 X.hts (lw_V q672 q362 q363 q106 q364) rfl rfl rfl ⟨rfl, md_J2_size⟩ ⟨Nat.le_of_ble_eq_true rfl, Nat.le_of_ble_eq_true rfl⟩⟩) rfl rfl (zk_rs (Nat.le_of_ble_eq_true rfl)) dX0_debt_77 ⟨by first | exact Nat.le_of_ble_eq_true rfl | omega | (dsimp only; omega), by first | exact Nat.le_of_ble_eq_true rfl | omega | (dsimp only; omega)⟩)) (fun v77 h => ?_)
            refine zv_istore X (L' := [(5, .int (v77)), (4, va_rf (v65)), (0, va_rf (some this)), (1, .int (x1)), (2, .int (x2)), (3, .int (x3))]) dX0_debt_80 (by decide) (by simp [zk_s1, zk_s2, zk_rc, zk_ic, zk_jc]) ?_
            refine zv_aload_n X 2 dX0_debt_82 rfl ?_
            refine zv_getf_r X fo_q402 dX0_debt_83 h (fun v83 h => ?_)
            refine zv_new X zk_nc7 q1470 (by first | exact Nat.le_of_ble_eq_true rfl | omega | (dsimp only; omega)) (by first | exact Nat.le_of_ble_eq_true rfl | omega | (dsimp only; omega)) dX0_debt_86 h (fun v86 P86 h => ?_)
            refine zv_dup X dX0_debt_89 (zk_rc _) ?_
            refine zv_iload X 0 dX0_debt_90 rfl ?_
            refine zv_aload_n X 2 dX0_debt_92 rfl ?_
            refine zv_getf_r X fo_q402 dX0_debt_93 h (fun v93 h => ?_)
            refine zv_getf_i X fo_q190 dX0_debt_96 h (fun v96 h => ?_)
            refine zv_iload_n X 4 dX0_debt_99 rfl ?_
            refine zv_iload_n X 5 dX0_debt_100 rfl ?_
            refine zv_cv ((zr_I X (As := [.int (v77), .int (v96), .int (x2), .int (x3)]) (rest := [va_rf (some v86), va_rf (v83)]) (wk_X8_init l h) (cwI 4 X.hts (lw_meth q558) rfl rfl rfl (X.w q128) (X.w q1471) (X.w q557) rfl md_X8_init ⟨Nat.le_of_ble_eq_true rfl, Nat.le_of_ble_eq_true rfl⟩) rfl rfl (zk_rs (Nat.le_of_ble_eq_true rfl)) dX0_debt_101 ⟨by first | exact Nat.le_of_ble_eq_true rfl | omega | (dsimp only; omega), by first | exact Nat.le_of_ble_eq_true rfl | omega | (dsimp only; omega)⟩)) (fun P101 h => ?_)
            refine zv_iload_n X 3 dX0_debt_104 rfl ?_
            refine zv_cv ((zr_Vl X (As := [va_rf (some v86), .int (x1)]) (rest := []) h (fun a h => wk_X1_burdens l h) (zk_l1 ⟨_, rfl, cwV 2 X.hts (lw_V q1472 q1278 q1279 q103 q1280) rfl rfl rfl ⟨rfl, md_X1_burdens⟩ ⟨Nat.le_of_ble_eq_true rfl, Nat.le_of_ble_eq_true rfl⟩⟩) rfl rfl (zk_rs (Nat.le_of_ble_eq_true rfl)) dX0_debt_105 ⟨by first | exact Nat.le_of_ble_eq_true rfl | omega | (dsimp only; omega), by first | exact Nat.le_of_ble_eq_true rfl | omega | (dsimp only; omega)⟩)) (fun P105 h => ?_)
            refine zv_aload_n X 2 dX0_debt_108 rfl ?_
            refine zv_getf_r X fo_q402 dX0_debt_109 h (fun v109 h => ?_)
            refine zv_iconst X (v := 4) dX0_debt_112 rfl ?_
            refine zv_iload X 0 dX0_debt_113 rfl ?_
            refine zv_iload_n X 5 dX0_debt_115 rfl ?_
            refine zv_cv ((zr_Vl X (As := [.int (4), .int (v77), .int (x3)]) (rest := []) h (fun a h => wk_X1_logs l h) (zk_l1 ⟨_, rfl, cwV 3 X.hts (lw_V q1318 q1319 q1320 q103 q1321) rfl rfl rfl ⟨rfl, md_X1_logs⟩ ⟨Nat.le_of_ble_eq_true rfl, Nat.le_of_ble_eq_true rfl⟩⟩) rfl rfl (zk_rs (Nat.le_of_ble_eq_true rfl)) dX0_debt_116 ⟨by first | exact Nat.le_of_ble_eq_true rfl | omega | (dsimp only; omega), by first | exact Nat.le_of_ble_eq_true rfl | omega | (dsimp only; omega)⟩)) (fun P116 h => ?_)
            refine zv_aload_n X 2 dX0_debt_119 rfl ?_
            refine zv_aload X 1 dX0_debt_120 rfl ?_
            refine zv_iload X 0 dX0_debt_122 rfl ?_
            refine zv_ci ((zr_Vl X (As := [va_rf (v65), .int (v77)]) (rest := []) h (fun a h => wk_X0_done l h) (zk_l1 ⟨_, rfl, cwV 2 X.hts (lw_V q677 q679 qs7 q102 q680) rfl rfl rfl ⟨rfl, md_X0_done⟩ ⟨Nat.le_of_ble_eq_true rfl, Nat.le_of_ble_eq_true rfl⟩⟩) rfl rfl (zk_rs (Nat.le_of_ble_eq_true rfl)) dX0_debt_124 ⟨by first | exact Nat.le_of_ble_eq_true rfl | omega | (dsimp only; omega), by first | exact Nat.le_of_ble_eq_true rfl | omega | (dsimp only; omega)⟩)) (fun v124 P124 h => ?_)
            exact zv_iret X rfl (by first | exact Nat.le_of_ble_eq_true rfl | omega | (dsimp only; omega)) (by first | exact Nat.le_of_ble_eq_true rfl | omega | (dsimp only; omega)) dX0_debt_127 h
          · refine zv_bipush X (v := -3) dX0_debt_58 rfl ?_
            exact zv_iret X rfl (by first | exact Nat.le_of_ble_eq_true rfl | omega | (dsimp only; omega)) (by first | exact Nat.le_of_ble_eq_true rfl | omega | (dsimp only; omega)) dX0_debt_60 h
        · refine zv_bipush X (v := -4) dX0_debt_40 rfl ?_
          exact zv_iret X rfl (by first | exact Nat.le_of_ble_eq_true rfl | omega | (dsimp only; omega)) (by first | exact Nat.le_of_ble_eq_true rfl | omega | (dsimp only; omega)) dX0_debt_42 h
      · refine zv_iconst X (v := -1) dX0_debt_27 rfl ?_
        exact zv_iret X rfl (by first | exact Nat.le_of_ble_eq_true rfl | omega | (dsimp only; omega)) (by first | exact Nat.le_of_ble_eq_true rfl | omega | (dsimp only; omega)) dX0_debt_28 h
theorem md_X0_isSquare : yX0_isSquare.cls ≠ "java/lang/invoke/MethodHandle" ∧ yX0_isSquare.cls ≠ "java/lang/invoke/VarHandle" ∧ (parseMethodDescriptor yX0_isSquare.desc).map (fun d => d.parameters.length) = some 2 := by decide +kernel
theorem wk_X0_isSquare (l : Launch) {D : zk_G} {g : zk_M} {b0 : Nat} {post : Int32 → Prop} {this : Nat} {x1 : Int32} {x2 : Int32} {P : zk_H} (hh : wp_X0_isSquare post this x1 x2 P) : Met l yX0_isSquare (ws_ yX0_isSquare cX0_isSquare 3 (some Jvm.ClassFile.FieldType.boolean)) ({ frames := 1, cells := 0, slots := 0, locals := 22 } : Room) (va_Pc [.ref this, .int (x1), .int (x2)] (zk_pre D g b0 P)) (va_Qi (fun r u => post r ∧ u = P) (zk_B D b0) (zk_A b0)) 0 0 (zk_A b0) := by
  refine zk_enter "LandFolio" "isSquare" rfl rfl (plainFor_of_name (by decide)) [.ref this, .int (x1), .int (x2)] (Nat.le_of_ble_eq_true rfl) ?_
  intro p e s m args below meth c X
  refine zk_at0 (L' := [(0, va_rf (some this)), (1, .int (x1)), (2, .int (x2))]) (rfl) ?_
  have h := hh
  unfold wp_X0_isSquare at h
  refine zv_iload_n X 1 dX0_isSquare_0 rfl ?_
  refine zv_iconst X (v := 0) dX0_isSquare_1 rfl ?_
  refine zv_aload_n X 0 dX0_isSquare_2 rfl ?_
  refine zv_getf_r X fo_q402 dX0_isSquare_3 h (fun v3 h => ?_)
  refine zv_getf_i X fo_q184 dX0_isSquare_6 h (fun v6 h => ?_)
  refine zv_iconst X (v := 1) dX0_isSquare_9 rfl ?_
  refine zv_isub X dX0_isSquare_10 ?_
  refine zv_ciR ((zr_S X (As := [.int (x1), .int (0), .int (v6 - 1)]) (rest := []) (wk_X0_isIn l h) (va_cwS 3 X.hts (lw_S q462 q463 q102 q464) rfl rfl rfl md_X0_isIn ⟨Nat.le_of_ble_eq_true rfl, Nat.le_of_ble_eq_true rfl⟩) rfl rfl (zk_rs (Nat.le_of_ble_eq_true rfl)) dX0_isSquare_11 ⟨by first | exact Nat.le_of_ble_eq_true rfl | omega | (dsimp only; omega), by first | exact Nat.le_of_ble_eq_true rfl | omega | (dsimp only; omega)⟩)) (fun v11 h => ?_)
  refine zv_if_eq X (tgt := 38) dX0_isSquare_14 (by decide) h (fun h => ?_) (fun h => ?_)
  · refine zv_iconst X (v := 0) dX0_isSquare_38 rfl ?_
    exact zv_zret X (ty := .boolean) rfl (by first | exact Nat.le_of_ble_eq_true rfl | omega | (dsimp only; omega)) (by first | exact Nat.le_of_ble_eq_true rfl | omega | (dsimp only; omega)) dX0_isSquare_39 ⟨rfl, ⟨h, rfl⟩⟩
  · refine zv_iload_n X 2 dX0_isSquare_17 rfl ?_
    refine zv_iconst X (v := 0) dX0_isSquare_18 rfl ?_
    refine zv_aload_n X 0 dX0_isSquare_19 rfl ?_
    refine zv_getf_r X fo_q402 dX0_isSquare_20 h (fun v20 h => ?_)
    refine zv_getf_i X fo_q186 dX0_isSquare_23 h (fun v23 h => ?_)
    refine zv_iconst X (v := 1) dX0_isSquare_26 rfl ?_
    refine zv_isub X dX0_isSquare_27 ?_
    refine zv_ciR ((zr_S X (As := [.int (x2), .int (0), .int (v23 - 1)]) (rest := []) (wk_X0_isIn l h) (va_cwS 3 X.hts (lw_S q462 q463 q102 q464) rfl rfl rfl md_X0_isIn ⟨Nat.le_of_ble_eq_true rfl, Nat.le_of_ble_eq_true rfl⟩) rfl rfl (zk_rs (Nat.le_of_ble_eq_true rfl)) dX0_isSquare_28 ⟨by first | exact Nat.le_of_ble_eq_true rfl | omega | (dsimp only; omega), by first | exact Nat.le_of_ble_eq_true rfl | omega | (dsimp only; omega)⟩)) (fun v28 h => ?_)
    refine zv_if_eq X (tgt := 38) dX0_isSquare_31 (by decide) h (fun h => ?_) (fun h => ?_)
    · refine zv_iconst X (v := 0) dX0_isSquare_38 rfl ?_
      exact zv_zret X (ty := .boolean) rfl (by first | exact Nat.le_of_ble_eq_true rfl | omega | (dsimp only; omega)) (by first | exact Nat.le_of_ble_eq_true rfl | omega | (dsimp only; omega)) dX0_isSquare_39 ⟨rfl, ⟨h, rfl⟩⟩
    · refine zv_iconst X (v := 1) dX0_isSquare_34 rfl ?_
      refine zv_goto X (tgt := 39) dX0_isSquare_35 (by decide) ?_
      exact zv_zret X (ty := .boolean) rfl (by first | exact Nat.le_of_ble_eq_true rfl | omega | (dsimp only; omega)) (by first | exact Nat.le_of_ble_eq_true rfl | omega | (dsimp only; omega)) dX0_isSquare_39 ⟨rfl, ⟨h, rfl⟩⟩
theorem kj_X1_liveAt_26 {p : Program} {l : Launch} {e : Env} {s : State} {m : MethodId} {args : Array Value} {below : List Frame} {meth : Method} {c : Code} {D : zk_G} {g : zk_M} {b0 : Nat} (X : zk_X p s m args meth c D g b0 cX1_liveAt 4 "LandFolio$Folio" "liveAt" (some Jvm.ClassFile.FieldType.int)) {post : Int32 → Prop} {K2 : Int32 → Prop} {a0 : Option Nat} {a1 : Int32} {a2 : Int32} {a3 : Int32} {P : zk_H}  (hK2 : ∀ (u3 : Int32), K2 u3 → zV p l e ({ frames := 4, cells := 0, slots := 0, locals := 85 } : Room) s m args below meth c D b0 4 (0) (0) (MQ below (va_Qi (fun r u => post r ∧ u = P) (zk_B D b0) (zk_A b0)) args s 0 0 (zk_A b0)) P 2 [(0, va_rf (a0)), (1, .int (a1)), (2, .int (a2)), (3, .int (u3))] [])  (hh : wj_X1_liveAt_26 post K2 a0 a1 a2 a3 P) : zV p l e ({ frames := 4, cells := 0, slots := 0, locals := 85 } : Room) s m args below meth c D b0 4 (0) (0) (MQ below (va_Qi (fun r u => post r ∧ u = P) (zk_B D b0) (zk_A b0)) args s 0 0 (zk_A b0)) P 26 [(0, va_rf (a0)), (1, .int (a1)), (2, .int (a2)), (3, .int (a3))] [] := by
  have h := hh
  unfold wj_X1_liveAt_26 at h
  obtain ⟨v26, e26, h⟩ := zt_e h
  refine zv_iinc X (v := v26) (L' := [(3, .int (v26)), (0, va_rf (a0)), (1, .int (a1)), (2, .int (a2))]) 3 dX1_liveAt_26 rfl e26 (by decide) rfl ?_
  refine zv_goto X (tgt := 2) dX1_liveAt_29 (by decide) ?_
  refine zv_sub (L' := [(0, va_rf (a0)), (1, .int (a1)), (2, .int (a2)), (3, .int (v26))]) [1, 2, 3, 0] rfl ?_
  exact hK2 _ h
theorem kb_X1_liveAt_2 {p : Program} {l : Launch} {e : Env} {s : State} {m : MethodId} {args : Array Value} {below : List Frame} {meth : Method} {c : Code} {D : zk_G} {g : zk_M} {b0 : Nat} (X : zk_X p s m args meth c D g b0 cX1_liveAt 4 "LandFolio$Folio" "liveAt" (some Jvm.ClassFile.FieldType.int)) {post : Int32 → Prop}  {K2 : Int32 → Prop} {a0 : Option Nat} {a1 : Int32} {a2 : Int32} {a3 : Int32} {P : zk_H}   (hK2 : ∀ (u3 : Int32), K2 u3 → zV p l e ({ frames := 4, cells := 0, slots := 0, locals := 85 } : Room) s m args below meth c D b0 4 (0) (0) (MQ below (va_Qi (fun r u => post r ∧ u = P) (zk_B D b0) (zk_A b0)) args s 0 0 (zk_A b0)) P 2 [(0, va_rf (a0)), (1, .int (a1)), (2, .int (a2)), (3, .int (u3))] [])  (hh : wb_X1_liveAt_2 post a0 a1 a2 P K2 a3) : zV p l e ({ frames := 4, cells := 0, slots := 0, locals := 85 } : Room) s m args below meth c D b0 4 (0) (0) (MQ below (va_Qi (fun r u => post r ∧ u = P) (zk_B D b0) (zk_A b0)) args s 0 0 (zk_A b0)) P 2 [(0, va_rf (a0)), (1, .int (a1)), (2, .int (a2)), (3, .int (a3))] [] := by
  have h := hh
  unfold wb_X1_liveAt_2 at h
  refine zv_aload_n X 0 dX1_liveAt_2 rfl ?_
  refine zv_iload_n X 3 dX1_liveAt_3 rfl ?_
  refine zv_cqR ((zr_Vl X (As := [.int (a3)]) (rest := []) h (fun a h => wk_X1_parcel l h) (zk_l1 ⟨_, rfl, cwV 1 X.hts (lw_V q501 q502 q503 q103 q504) rfl rfl rfl ⟨rfl, md_X1_parcel⟩ ⟨Nat.le_of_ble_eq_true rfl, Nat.le_of_ble_eq_true rfl⟩⟩) rfl rfl (zk_rs (Nat.le_of_ble_eq_true rfl)) dX1_liveAt_4 ⟨by first | exact Nat.le_of_ble_eq_true rfl | omega | (dsimp only; omega), by first | exact Nat.le_of_ble_eq_true rfl | omega | (dsimp only; omega)⟩)) (fun v4 h => ?_)
  refine zv_ciR ((zr_Vl X (As := []) (rest := []) h (fun a h => wk_X2_isLive l h) (zk_l1 ⟨_, rfl, cwV 0 X.hts (lw_V q1377 q1177 q1178 q111 q1179) rfl rfl rfl ⟨rfl, md_X2_isLive⟩ ⟨Nat.le_of_ble_eq_true rfl, Nat.le_of_ble_eq_true rfl⟩⟩) rfl rfl (zk_rs (Nat.le_of_ble_eq_true rfl)) dX1_liveAt_7 ⟨by first | exact Nat.le_of_ble_eq_true rfl | omega | (dsimp only; omega), by first | exact Nat.le_of_ble_eq_true rfl | omega | (dsimp only; omega)⟩)) (fun v7 h => ?_)
  refine zv_if_eq X (tgt := 26) dX1_liveAt_10 (by decide) h (fun h => ?_) (fun h => ?_)
  · exact kj_X1_liveAt_26 X hK2 h
  · refine zv_aload_n X 0 dX1_liveAt_13 rfl ?_
    refine zv_iload_n X 3 dX1_liveAt_14 rfl ?_
    refine zv_cqR ((zr_Vl X (As := [.int (a3)]) (rest := []) h (fun a h => wk_X1_parcel l h) (zk_l1 ⟨_, rfl, cwV 1 X.hts (lw_V q501 q502 q503 q103 q504) rfl rfl rfl ⟨rfl, md_X1_parcel⟩ ⟨Nat.le_of_ble_eq_true rfl, Nat.le_of_ble_eq_true rfl⟩⟩) rfl rfl (zk_rs (Nat.le_of_ble_eq_true rfl)) dX1_liveAt_15 ⟨by first | exact Nat.le_of_ble_eq_true rfl | omega | (dsimp only; omega), by first | exact Nat.le_of_ble_eq_true rfl | omega | (dsimp only; omega)⟩)) (fun v15 h => ?_)
    refine zv_iload_n X 1 dX1_liveAt_18 rfl ?_
    refine zv_iload_n X 2 dX1_liveAt_19 rfl ?_
    refine zv_ciR ((zr_Vl X (As := [.int (a1), .int (a2)]) (rest := []) h (fun a h => wk_X2_has l h) (zk_l1 ⟨_, rfl, cwV 2 X.hts (lw_V q1220 q1221 q1222 q111 q1223) rfl rfl rfl ⟨rfl, md_X2_has⟩ ⟨Nat.le_of_ble_eq_true rfl, Nat.le_of_ble_eq_true rfl⟩⟩) rfl rfl (zk_rs (Nat.le_of_ble_eq_true rfl)) dX1_liveAt_20 ⟨by first | exact Nat.le_of_ble_eq_true rfl | omega | (dsimp only; omega), by first | exact Nat.le_of_ble_eq_true rfl | omega | (dsimp only; omega)⟩)) (fun v20 h => ?_)
    refine zv_if_ne X (tgt := 32) dX1_liveAt_23 (by decide) h (fun h => ?_) (fun h => ?_)
    · refine zv_iload_n X 3 dX1_liveAt_32 rfl ?_
      exact zv_iret X rfl (by first | exact Nat.le_of_ble_eq_true rfl | omega | (dsimp only; omega)) (by first | exact Nat.le_of_ble_eq_true rfl | omega | (dsimp only; omega)) dX1_liveAt_33 ⟨h, rfl⟩
    · exact kj_X1_liveAt_26 X hK2 h
theorem kl_X1_liveAt_2 {p : Program} {l : Launch} {e : Env} {s : State} {m : MethodId} {args : Array Value} {below : List Frame} {meth : Method} {c : Code} {D : zk_G} {g : zk_M} {b0 : Nat} (X : zk_X p s m args meth c D g b0 cX1_liveAt 4 "LandFolio$Folio" "liveAt" (some Jvm.ClassFile.FieldType.int)) {post : Int32 → Prop}  {a0 : Option Nat} {a1 : Int32} {a2 : Int32} {P : zk_H}   : ∀ (n : Nat) (a3 : Int32), wl_X1_liveAt_2 post a0 a1 a2 P n a3 → zV p l e ({ frames := 4, cells := 0, slots := 0, locals := 85 } : Room) s m args below meth c D b0 4 (0) (0) (MQ below (va_Qi (fun r u => post r ∧ u = P) (zk_B D b0) (zk_A b0)) args s 0 0 (zk_A b0)) P 2 [(0, va_rf (a0)), (1, .int (a1)), (2, .int (a2)), (3, .int (a3))] [] := by
  intro n
  induction n with
  | zero => intro _ h; exact h.elim
  | succ n ih =>
    intro a3 h
    exact kb_X1_liveAt_2 X  (fun u0 h => ih _ h)  h
theorem md_X1_liveAt : yX1_liveAt.cls ≠ "java/lang/invoke/MethodHandle" ∧ yX1_liveAt.cls ≠ "java/lang/invoke/VarHandle" ∧ (parseMethodDescriptor yX1_liveAt.desc).map (fun d => d.parameters.length) = some 2 := by decide +kernel
theorem wk_X1_liveAt (l : Launch) {D : zk_G} {g : zk_M} {b0 : Nat} {post : Int32 → Prop} {this : Nat} {x1 : Int32} {x2 : Int32} {P : zk_H} (hh : wp_X1_liveAt post this x1 x2 P) : Met l yX1_liveAt (ws_ yX1_liveAt cX1_liveAt 4 (some Jvm.ClassFile.FieldType.int)) ({ frames := 4, cells := 0, slots := 0, locals := 85 } : Room) (va_Pc [.ref this, .int (x1), .int (x2)] (zk_pre D g b0 P)) (va_Qi (fun r u => post r ∧ u = P) (zk_B D b0) (zk_A b0)) 0 0 (zk_A b0) := by
  refine zk_enter "LandFolio$Folio" "liveAt" rfl rfl (plainFor_of_name (by decide)) [.ref this, .int (x1), .int (x2)] (Nat.le_of_ble_eq_true rfl) ?_
  intro p e s m args below meth c X
  refine zk_at0 (L' := [(0, va_rf (some this)), (1, .int (x1)), (2, .int (x2))]) (rfl) ?_
  have h := hh
  unfold wp_X1_liveAt at h
  refine zv_iconst X (v := 0) dX1_liveAt_0 rfl ?_
  refine zv_istore_n X (i := 3) (L' := [(3, .int (0)), (0, va_rf (some this)), (1, .int (x1)), (2, .int (x2))]) dX1_liveAt_1 rfl (by decide) rfl ?_
  refine zv_sub (L' := [(0, va_rf (some this)), (1, .int (x1)), (2, .int (x2)), (3, .int (0))]) [1, 2, 3, 0] rfl ?_
  obtain ⟨n1, h⟩ := h
  exact kl_X1_liveAt_2 X  n1 _ h
theorem kj_X1_hasPath_78 {p : Program} {l : Launch} {e : Env} {s : State} {m : MethodId} {args : Array Value} {below : List Frame} {meth : Method} {c : Code} {D : zk_G} {g : zk_M} {b0 : Nat} (X : zk_X p s m args meth c D g b0 cX1_hasPath 8 "LandFolio$Folio" "hasPath" (some Jvm.ClassFile.FieldType.boolean)) {post : Int32 → Prop} {K6 : Int32 → Int32 → Prop} {a0 : Option Nat} {a1 : Int32} {a2 : Int32} {a3 : Int32} {a5 : Int32} {s0 : Int32} {P : zk_H}  (hK6 : ∀ (u4 : Int32) (u5 : Int32), K6 u4 u5 → zV p l e ({ frames := 4, cells := 0, slots := 0, locals := 85 } : Room) s m args below meth c D b0 8 (0) (0) (MQ below (va_Qi (fun r u => post r ∧ u = P) (zk_B D b0) (zk_A b0)) args s 0 0 (zk_A b0)) P 6 [(0, va_rf (a0)), (1, .int (a1)), (2, .int (a2)), (3, .int (a3)), (4, .int (u4)), (5, .int (u5))] [])  (hh : wj_X1_hasPath_78 post K6 a0 a1 a2 a3 a5 s0 P) : zV p l e ({ frames := 4, cells := 0, slots := 0, locals := 85 } : Room) s m args below meth c D b0 8 (0) (0) (MQ below (va_Qi (fun r u => post r ∧ u = P) (zk_B D b0) (zk_A b0)) args s 0 0 (zk_A b0)) P 78 [(0, va_rf (a0)), (1, .int (a1)), (2, .int (a2)), (3, .int (a3)), (5, .int (a5))] [.int (s0)] := by
  have h := hh
  unfold wj_X1_hasPath_78 at h
  refine zv_istore X (L' := [(4, .int (s0)), (0, va_rf (a0)), (1, .int (a1)), (2, .int (a2)), (3, .int (a3)), (5, .int (a5))]) dX1_hasPath_78 (by decide) rfl ?_
  obtain ⟨v80, e80, h⟩ := zt_e h
  refine zv_iinc X (v := v80) (L' := [(5, .int (v80)), (4, .int (s0)), (0, va_rf (a0)), (1, .int (a1)), (2, .int (a2)), (3, .int (a3))]) 5 dX1_hasPath_80 rfl e80 (by decide) rfl ?_
  refine zv_goto X (tgt := 6) dX1_hasPath_83 (by decide) ?_
  refine zv_sub (L' := [(0, va_rf (a0)), (1, .int (a1)), (2, .int (a2)), (3, .int (a3)), (4, .int (s0)), (5, .int (v80))]) [2, 3, 4, 5, 1, 0] rfl ?_
  exact hK6 _ _ h
theorem kj_X1_hasPath_77 {p : Program} {l : Launch} {e : Env} {s : State} {m : MethodId} {args : Array Value} {below : List Frame} {meth : Method} {c : Code} {D : zk_G} {g : zk_M} {b0 : Nat} (X : zk_X p s m args meth c D g b0 cX1_hasPath 8 "LandFolio$Folio" "hasPath" (some Jvm.ClassFile.FieldType.boolean)) {post : Int32 → Prop} {K6 : Int32 → Int32 → Prop} {a0 : Option Nat} {a1 : Int32} {a2 : Int32} {a3 : Int32} {a5 : Int32} {P : zk_H}  (hK6 : ∀ (u4 : Int32) (u5 : Int32), K6 u4 u5 → zV p l e ({ frames := 4, cells := 0, slots := 0, locals := 85 } : Room) s m args below meth c D b0 8 (0) (0) (MQ below (va_Qi (fun r u => post r ∧ u = P) (zk_B D b0) (zk_A b0)) args s 0 0 (zk_A b0)) P 6 [(0, va_rf (a0)), (1, .int (a1)), (2, .int (a2)), (3, .int (a3)), (4, .int (u4)), (5, .int (u5))] [])  (hh : wj_X1_hasPath_77 post K6 a0 a1 a2 a3 a5 P) : zV p l e ({ frames := 4, cells := 0, slots := 0, locals := 85 } : Room) s m args below meth c D b0 8 (0) (0) (MQ below (va_Qi (fun r u => post r ∧ u = P) (zk_B D b0) (zk_A b0)) args s 0 0 (zk_A b0)) P 77 [(0, va_rf (a0)), (1, .int (a1)), (2, .int (a2)), (3, .int (a3)), (5, .int (a5))] [] := by
  have h := hh
  unfold wj_X1_hasPath_77 at h
  refine zv_iconst X (v := 0) dX1_hasPath_77 rfl ?_
  exact kj_X1_hasPath_78 X hK6 h
theorem kj_X1_hasPath_73 {p : Program} {l : Launch} {e : Env} {s : State} {m : MethodId} {args : Array Value} {below : List Frame} {meth : Method} {c : Code} {D : zk_G} {g : zk_M} {b0 : Nat} (X : zk_X p s m args meth c D g b0 cX1_hasPath 8 "LandFolio$Folio" "hasPath" (some Jvm.ClassFile.FieldType.boolean)) {post : Int32 → Prop} {K6 : Int32 → Int32 → Prop} {a0 : Option Nat} {a1 : Int32} {a2 : Int32} {a3 : Int32} {a5 : Int32} {P : zk_H}  (hK6 : ∀ (u4 : Int32) (u5 : Int32), K6 u4 u5 → zV p l e ({ frames := 4, cells := 0, slots := 0, locals := 85 } : Room) s m args below meth c D b0 8 (0) (0) (MQ below (va_Qi (fun r u => post r ∧ u = P) (zk_B D b0) (zk_A b0)) args s 0 0 (zk_A b0)) P 6 [(0, va_rf (a0)), (1, .int (a1)), (2, .int (a2)), (3, .int (a3)), (4, .int (u4)), (5, .int (u5))] [])  (hh : wj_X1_hasPath_73 post K6 a0 a1 a2 a3 a5 P) : zV p l e ({ frames := 4, cells := 0, slots := 0, locals := 85 } : Room) s m args below meth c D b0 8 (0) (0) (MQ below (va_Qi (fun r u => post r ∧ u = P) (zk_B D b0) (zk_A b0)) args s 0 0 (zk_A b0)) P 73 [(0, va_rf (a0)), (1, .int (a1)), (2, .int (a2)), (3, .int (a3)), (5, .int (a5))] [] := by
  have h := hh
  unfold wj_X1_hasPath_73 at h
  refine zv_iconst X (v := 1) dX1_hasPath_73 rfl ?_
  refine zv_goto X (tgt := 78) dX1_hasPath_74 (by decide) ?_
  exact kj_X1_hasPath_78 X hK6 h
theorem kb_X1_hasPath_6 {p : Program} {l : Launch} {e : Env} {s : State} {m : MethodId} {args : Array Value} {below : List Frame} {meth : Method} {c : Code} {D : zk_G} {g : zk_M} {b0 : Nat} (X : zk_X p s m args meth c D g b0 cX1_hasPath 8 "LandFolio$Folio" "hasPath" (some Jvm.ClassFile.FieldType.boolean)) {post : Int32 → Prop}  {K6 : Int32 → Int32 → Prop} {a0 : Option Nat} {a1 : Int32} {a2 : Int32} {a3 : Int32} {a4 : Int32} {a5 : Int32} {P : zk_H}   (hK6 : ∀ (u4 : Int32) (u5 : Int32), K6 u4 u5 → zV p l e ({ frames := 4, cells := 0, slots := 0, locals := 85 } : Room) s m args below meth c D b0 8 (0) (0) (MQ below (va_Qi (fun r u => post r ∧ u = P) (zk_B D b0) (zk_A b0)) args s 0 0 (zk_A b0)) P 6 [(0, va_rf (a0)), (1, .int (a1)), (2, .int (a2)), (3, .int (a3)), (4, .int (u4)), (5, .int (u5))] [])  (hh : wb_X1_hasPath_6 post a0 a1 a2 a3 P K6 a4 a5) : zV p l e ({ frames := 4, cells := 0, slots := 0, locals := 85 } : Room) s m args below meth c D b0 8 (0) (0) (MQ below (va_Qi (fun r u => post r ∧ u = P) (zk_B D b0) (zk_A b0)) args s 0 0 (zk_A b0)) P 6 [(0, va_rf (a0)), (1, .int (a1)), (2, .int (a2)), (3, .int (a3)), (4, .int (a4)), (5, .int (a5))] [] := by
  have h := hh
  unfold wb_X1_hasPath_6 at h
  refine zv_iload X 5 dX1_hasPath_6 rfl ?_
  refine zv_aload_n X 0 dX1_hasPath_8 rfl ?_
  refine zv_getf_r X fo_q199 dX1_hasPath_9 h (fun v9 h => ?_)
  refine zv_ciR ((zr_Vl X (As := []) (rest := [.int (a5)]) h (fun a h => wk_J2_size l h) (zk_l1 ⟨_, rfl, cwV 0 X.hts (lw_V q361 q362 q363 q106 q364) rfl rfl rfl ⟨rfl, md_J2_size⟩ ⟨Nat.le_of_ble_eq_true rfl, Nat.le_of_ble_eq_true rfl⟩⟩) rfl rfl (zk_rs (Nat.le_of_ble_eq_true rfl)) dX1_hasPath_12 ⟨by first | exact Nat.le_of_ble_eq_true rfl | omega | (dsimp only; omega), by first | exact Nat.le_of_ble_eq_true rfl | omega | (dsimp only; omega)⟩)) (fun v12 h => ?_)
  refine zv_icmp_ge X (tgt := 86) dX1_hasPath_15 (by decide) h (fun h => ?_) (fun h => ?_)
  · refine zv_iload X 4 dX1_hasPath_86 rfl ?_
    obtain ⟨hb, h⟩ := h
    exact zv_zret X (ty := .boolean) rfl (by first | exact Nat.le_of_ble_eq_true rfl | omega | (dsimp only; omega)) (by first | exact Nat.le_of_ble_eq_true rfl | omega | (dsimp only; omega)) dX1_hasPath_88 ⟨hb, ⟨h, rfl⟩⟩
  · refine zv_iload X 4 dX1_hasPath_18 rfl ?_
    refine zv_if_ne X (tgt := 73) dX1_hasPath_20 (by decide) h (fun h => ?_) (fun h => ?_)
    · refine zv_sub (L' := [(0, va_rf (a0)), (1, .int (a1)), (2, .int (a2)), (3, .int (a3)), (5, .int (a5))]) [0, 1, 2, 3, 5] rfl ?_
      exact kj_X1_hasPath_73 X hK6 h
    · refine zv_aload_n X 0 dX1_hasPath_23 rfl ?_
      refine zv_iload X 5 dX1_hasPath_24 rfl ?_
      refine zv_cqR ((zr_Vl X (As := [.int (a5)]) (rest := []) h (fun a h => wk_X1_burden l h) (zk_l1 ⟨_, rfl, cwV 1 X.hts (lw_V q525 q526 q527 q103 q528) rfl rfl rfl ⟨rfl, md_X1_burden⟩ ⟨Nat.le_of_ble_eq_true rfl, Nat.le_of_ble_eq_true rfl⟩⟩) rfl rfl (zk_rs (Nat.le_of_ble_eq_true rfl)) dX1_hasPath_26 ⟨by first | exact Nat.le_of_ble_eq_true rfl | omega | (dsimp only; omega), by first | exact Nat.le_of_ble_eq_true rfl | omega | (dsimp only; omega)⟩)) (fun v26 h => ?_)
      refine zv_astore X (L' := [(7, va_rf (v26)), (0, va_rf (a0)), (1, .int (a1)), (2, .int (a2)), (3, .int (a3)), (4, .int (a4)), (5, .int (a5))]) dX1_hasPath_29 (by decide) rfl ?_
      refine zv_aload X 0 dX1_hasPath_31 rfl ?_
      refine zv_inst X zk_cs6 (zk_l1 ⟨_, rfl, X.nc (i := 0) rfl⟩) q1219 dX1_hasPath_33 h (fun v33 h => ?_)
      refine zv_if_eq X (tgt := 77) dX1_hasPath_36 (by decide) h (fun h => ?_) (fun h => ?_)
      · refine zv_sub (L' := [(0, va_rf (a0)), (1, .int (a1)), (2, .int (a2)), (3, .int (a3)), (5, .int (a5))]) [1, 2, 3, 4, 6] rfl ?_
        exact kj_X1_hasPath_77 X hK6 h
      · refine zv_aload X 0 dX1_hasPath_39 rfl ?_
        refine zv_cast X zk_cs6 q1219 dX1_hasPath_41 h (fun h => ?_)
        refine zv_astore X (L' := [(6, va_rf (v26)), (7, va_rf (v26)), (0, va_rf (a0)), (1, .int (a1)), (2, .int (a2)), (3, .int (a3)), (4, .int (a4)), (5, .int (a5))]) dX1_hasPath_44 (by decide) rfl ?_
        refine zv_aload X 0 dX1_hasPath_46 rfl ?_
        refine zv_iload_n X 3 dX1_hasPath_48 rfl ?_
        refine zv_ciR ((zr_Ul X (As := [.int (a1)]) (rest := []) h (fun a h => wk_X7_isOn l h) (zk_l1 ⟨_, rfl, _, va_cwU 1 X.hts (zk_wsU q1291 q1292 q1294 q1207 q127 q1211) rfl rfl rfl rfl md_X7_isOn ⟨Nat.le_of_ble_eq_true rfl, Nat.le_of_ble_eq_true rfl⟩⟩) rfl rfl (zk_rs (Nat.le_of_ble_eq_true rfl)) dX1_hasPath_49 ⟨by first | exact Nat.le_of_ble_eq_true rfl | omega | (dsimp only; omega), by first | exact Nat.le_of_ble_eq_true rfl | omega | (dsimp only; omega)⟩)) (fun v49 h => ?_)
        refine zv_if_eq X (tgt := 77) dX1_hasPath_52 (by decide) h (fun h => ?_) (fun h => ?_)
        · refine zv_sub (L' := [(0, va_rf (a0)), (1, .int (a1)), (2, .int (a2)), (3, .int (a3)), (5, .int (a5))]) [2, 3, 4, 5, 7] rfl ?_
          exact kj_X1_hasPath_77 X hK6 h
        · refine zv_aload X 0 dX1_hasPath_55 rfl ?_
          refine zv_getf_i X fo_q631 dX1_hasPath_57 h (fun v57 h => ?_)
          refine zv_iload_n X 4 dX1_hasPath_60 rfl ?_
          refine zv_icmp_ne X (tgt := 77) dX1_hasPath_61 (by decide) h (fun h => ?_) (fun h => ?_)
          · refine zv_sub (L' := [(0, va_rf (a0)), (1, .int (a1)), (2, .int (a2)), (3, .int (a3)), (5, .int (a5))]) [2, 3, 4, 5, 7] rfl ?_
            exact kj_X1_hasPath_77 X hK6 h
          · refine zv_aload X 0 dX1_hasPath_64 rfl ?_
            refine zv_getf_i X fo_q634 dX1_hasPath_66 h (fun v66 h => ?_)
            refine zv_iload_n X 5 dX1_hasPath_69 rfl ?_
            refine zv_icmp_ne X (tgt := 77) dX1_hasPath_70 (by decide) h (fun h => ?_) (fun h => ?_)
            · refine zv_sub (L' := [(0, va_rf (a0)), (1, .int (a1)), (2, .int (a2)), (3, .int (a3)), (5, .int (a5))]) [2, 3, 4, 5, 7] rfl ?_
              exact kj_X1_hasPath_77 X hK6 h
            · refine zv_sub (L' := [(0, va_rf (a0)), (1, .int (a1)), (2, .int (a2)), (3, .int (a3)), (5, .int (a5))]) [2, 3, 4, 5, 7] rfl ?_
              exact kj_X1_hasPath_73 X hK6 h
theorem kl_X1_hasPath_6 {p : Program} {l : Launch} {e : Env} {s : State} {m : MethodId} {args : Array Value} {below : List Frame} {meth : Method} {c : Code} {D : zk_G} {g : zk_M} {b0 : Nat} (X : zk_X p s m args meth c D g b0 cX1_hasPath 8 "LandFolio$Folio" "hasPath" (some Jvm.ClassFile.FieldType.boolean)) {post : Int32 → Prop}  {a0 : Option Nat} {a1 : Int32} {a2 : Int32} {a3 : Int32} {P : zk_H}   : ∀ (n : Nat) (a4 : Int32) (a5 : Int32), wl_X1_hasPath_6 post a0 a1 a2 a3 P n a4 a5 → zV p l e ({ frames := 4, cells := 0, slots := 0, locals := 85 } : Room) s m args below meth c D b0 8 (0) (0) (MQ below (va_Qi (fun r u => post r ∧ u = P) (zk_B D b0) (zk_A b0)) args s 0 0 (zk_A b0)) P 6 [(0, va_rf (a0)), (1, .int (a1)), (2, .int (a2)), (3, .int (a3)), (4, .int (a4)), (5, .int (a5))] [] := by
  intro n
  induction n with
  | zero => intro _ _ h; exact h.elim
  | succ n ih =>
    intro a4 a5 h
    exact kb_X1_hasPath_6 X  (fun u0 u1 h => ih _ _ h)  h
theorem md_X1_hasPath : yX1_hasPath.cls ≠ "java/lang/invoke/MethodHandle" ∧ yX1_hasPath.cls ≠ "java/lang/invoke/VarHandle" ∧ (parseMethodDescriptor yX1_hasPath.desc).map (fun d => d.parameters.length) = some 3 := by decide +kernel
theorem wk_X1_hasPath (l : Launch) {D : zk_G} {g : zk_M} {b0 : Nat} {post : Int32 → Prop} {this : Nat} {x1 : Int32} {x2 : Int32} {x3 : Int32} {P : zk_H} (hh : wp_X1_hasPath post this x1 x2 x3 P) : Met l yX1_hasPath (ws_ yX1_hasPath cX1_hasPath 8 (some Jvm.ClassFile.FieldType.boolean)) ({ frames := 4, cells := 0, slots := 0, locals := 85 } : Room) (va_Pc [.ref this, .int (x1), .int (x2), .int (x3)] (zk_pre D g b0 P)) (va_Qi (fun r u => post r ∧ u = P) (zk_B D b0) (zk_A b0)) 0 0 (zk_A b0) := by
  refine zk_enter "LandFolio$Folio" "hasPath" rfl rfl (plainFor_of_name (by decide)) [.ref this, .int (x1), .int (x2), .int (x3)] (Nat.le_of_ble_eq_true rfl) ?_
  intro p e s m args below meth c X
  refine zk_at0 (L' := [(0, va_rf (some this)), (1, .int (x1)), (2, .int (x2)), (3, .int (x3))]) (rfl) ?_
  have h := hh
  unfold wp_X1_hasPath at h
  refine zv_iconst X (v := 0) dX1_hasPath_0 rfl ?_
  refine zv_istore X (L' := [(4, .int (0)), (0, va_rf (some this)), (1, .int (x1)), (2, .int (x2)), (3, .int (x3))]) dX1_hasPath_1 (by decide) rfl ?_
  refine zv_iconst X (v := 0) dX1_hasPath_3 rfl ?_
  refine zv_istore X (L' := [(5, .int (0)), (4, .int (0)), (0, va_rf (some this)), (1, .int (x1)), (2, .int (x2)), (3, .int (x3))]) dX1_hasPath_4 (by decide) rfl ?_
  refine zv_sub (L' := [(0, va_rf (some this)), (1, .int (x1)), (2, .int (x2)), (3, .int (x3)), (4, .int (0)), (5, .int (0))]) [2, 3, 4, 5, 1, 0] rfl ?_
  obtain ⟨n4, h⟩ := h
  exact kl_X1_hasPath_6 X  n4 _ _ h
theorem md_X0_path : yX0_path.cls ≠ "java/lang/invoke/MethodHandle" ∧ yX0_path.cls ≠ "java/lang/invoke/VarHandle" ∧ (parseMethodDescriptor yX0_path.desc).map (fun d => d.parameters.length) = some 2 := by decide +kernel
theorem wk_X0_path (l : Launch) {D : zk_G} {g : zk_M} {b0 : Nat} {post : Int32 → zk_H → Prop} {this : Nat} {x1 : Int32} {x2 : Int32} {P : zk_H} (hh : wp_X0_path g post this x1 x2 P) : Met l yX0_path (ws_ yX0_path cX0_path 6 (some Jvm.ClassFile.FieldType.int)) ({ frames := 8, cells := 184, slots := 7336, locals := 195 } : Room) (va_Pc [.ref this, .int (x1), .int (x2)] (zk_pre D g b0 P)) (va_Qi post (zk_B D b0) (zk_A b0)) 184 7336 (zk_A b0) := by
  refine zk_enter "LandFolio" "path" rfl rfl (plainFor_of_name (by decide)) [.ref this, .int (x1), .int (x2)] (Nat.le_of_ble_eq_true rfl) ?_
  intro p e s m args below meth c X
  refine zk_at0 (L' := [(0, va_rf (some this)), (1, .int (x1)), (2, .int (x2))]) (rfl) ?_
  have h := hh
  unfold wp_X0_path at h
  refine zv_aload_n X 0 dX0_path_0 rfl ?_
  refine zv_iload_n X 1 dX0_path_1 rfl ?_
  refine zv_iload_n X 2 dX0_path_2 rfl ?_
  refine zv_ciR ((zr_Vl X (As := [.int (x1), .int (x2)]) (rest := []) h (fun a h => wk_X0_isSquare l h) (zk_l1 ⟨_, rfl, cwV 2 X.hts (lw_V q1477 q1479 qs34 q102 q1480) rfl rfl rfl ⟨rfl, md_X0_isSquare⟩ ⟨Nat.le_of_ble_eq_true rfl, Nat.le_of_ble_eq_true rfl⟩⟩) rfl rfl (zk_rs (Nat.le_of_ble_eq_true rfl)) dX0_path_3 ⟨by first | exact Nat.le_of_ble_eq_true rfl | omega | (dsimp only; omega), by first | exact Nat.le_of_ble_eq_true rfl | omega | (dsimp only; omega)⟩)) (fun v3 h => ?_)
  refine zv_if_ne X (tgt := 11) dX0_path_6 (by decide) h (fun h => ?_) (fun h => ?_)
  · refine zv_aload_n X 0 dX0_path_11 rfl ?_
    refine zv_getf_r X fo_q402 dX0_path_12 h (fun v12 h => ?_)
    refine zv_iload_n X 1 dX0_path_15 rfl ?_
    refine zv_iload_n X 2 dX0_path_16 rfl ?_
    refine zv_ciR ((zr_Vl X (As := [.int (x1), .int (x2)]) (rest := []) h (fun a h => wk_X1_liveAt l h) (zk_l1 ⟨_, rfl, cwV 2 X.hts (lw_V q1481 q1482 q1483 q103 q1484) rfl rfl rfl ⟨rfl, md_X1_liveAt⟩ ⟨Nat.le_of_ble_eq_true rfl, Nat.le_of_ble_eq_true rfl⟩⟩) rfl rfl (zk_rs (Nat.le_of_ble_eq_true rfl)) dX0_path_17 ⟨by first | exact Nat.le_of_ble_eq_true rfl | omega | (dsimp only; omega), by first | exact Nat.le_of_ble_eq_true rfl | omega | (dsimp only; omega)⟩)) (fun v17 h => ?_)
    refine zv_istore_n X (i := 3) (L' := [(3, .int (v17)), (0, va_rf (some this)), (1, .int (x1)), (2, .int (x2))]) dX0_path_20 rfl (by decide) rfl ?_
    refine zv_aload_n X 1 dX0_path_21 rfl ?_
    refine zv_getf_r X fo_q402 dX0_path_22 h (fun v22 h => ?_)
    refine zv_iload_n X 0 dX0_path_25 rfl ?_
    refine zv_ciR ((zr_Vl X (As := [.int (v17)]) (rest := []) h (fun a h => wk_X1_isFree l h) (zk_l1 ⟨_, rfl, cwV 1 X.hts (lw_V q1373 q1374 q1375 q103 q1376) rfl rfl rfl ⟨rfl, md_X1_isFree⟩ ⟨Nat.le_of_ble_eq_true rfl, Nat.le_of_ble_eq_true rfl⟩⟩) rfl rfl (zk_rs (Nat.le_of_ble_eq_true rfl)) dX0_path_26 ⟨by first | exact Nat.le_of_ble_eq_true rfl | omega | (dsimp only; omega), by first | exact Nat.le_of_ble_eq_true rfl | omega | (dsimp only; omega)⟩)) (fun v26 h => ?_)
    refine zv_if_ne X (tgt := 35) dX0_path_29 (by decide) h (fun h => ?_) (fun h => ?_)
    · refine zv_aload_n X 1 dX0_path_35 rfl ?_
      refine zv_getf_r X fo_q402 dX0_path_36 h (fun v36 h => ?_)
      refine zv_iload_n X 0 dX0_path_39 rfl ?_
      refine zv_iload_n X 2 dX0_path_40 rfl ?_
      refine zv_iload_n X 3 dX0_path_41 rfl ?_
      refine zv_ciR ((zr_Vl X (As := [.int (v17), .int (x1), .int (x2)]) (rest := []) h (fun a h => wk_X1_hasPath l h) (zk_l1 ⟨_, rfl, cwV 3 X.hts (lw_V q1485 q1288 q1289 q103 q1290) rfl rfl rfl ⟨rfl, md_X1_hasPath⟩ ⟨Nat.le_of_ble_eq_true rfl, Nat.le_of_ble_eq_true rfl⟩⟩) rfl rfl (zk_rs (Nat.le_of_ble_eq_true rfl)) dX0_path_42 ⟨by first | exact Nat.le_of_ble_eq_true rfl | omega | (dsimp only; omega), by first | exact Nat.le_of_ble_eq_true rfl | omega | (dsimp only; omega)⟩)) (fun v42 h => ?_)
      refine zv_if_eq X (tgt := 51) dX0_path_45 (by decide) h (fun h => ?_) (fun h => ?_)
      · refine zv_aload_n X 1 dX0_path_51 rfl ?_
        refine zv_getf_r X fo_q402 dX0_path_52 h (fun v52 h => ?_)
        refine zv_getf_r X fo_q201 dX0_path_55 h (fun v55 h => ?_)
        refine zv_ciR ((zr_Vl X (As := []) (rest := []) h (fun a h => wk_J2_size l h) (zk_l1 ⟨_, rfl, cwV 0 X.hts (lw_V q672 q362 q363 q106 q364) rfl rfl rfl ⟨rfl, md_J2_size⟩ ⟨Nat.le_of_ble_eq_true rfl, Nat.le_of_ble_eq_true rfl⟩⟩) rfl rfl (zk_rs (Nat.le_of_ble_eq_true rfl)) dX0_path_58 ⟨by first | exact Nat.le_of_ble_eq_true rfl | omega | (dsimp only; omega), by first | exact Nat.le_of_ble_eq_true rfl | omega | (dsimp only; omega)⟩)) (fun v58 h => ?_)
        refine zv_bipush X (v := 20) dX0_path_61 rfl ?_
        refine zv_icmp_ne X (tgt := 69) dX0_path_63 (by decide) h (fun h => ?_) (fun h => ?_)
        · refine zv_aload_n X 1 dX0_path_69 rfl ?_
          refine zv_getf_r X fo_q402 dX0_path_70 h (fun v70 h => ?_)
          refine zv_cq ((zr_Vl X (As := []) (rest := []) h (fun a h => wk_X1_copied l h) (zk_l1 ⟨_, rfl, cwV 0 X.hts (lw_V q465 q466 q467 q103 q468) rfl rfl rfl ⟨rfl, md_X1_copied⟩ ⟨Nat.le_of_ble_eq_true rfl, Nat.le_of_ble_eq_true rfl⟩⟩) rfl rfl (zk_rs (Nat.le_of_ble_eq_true rfl)) dX0_path_73 ⟨by first | exact Nat.le_of_ble_eq_true rfl | omega | (dsimp only; omega), by first | exact Nat.le_of_ble_eq_true rfl | omega | (dsimp only; omega)⟩)) (fun v73 P73 h => ?_)
          refine zv_astore X (L' := [(4, va_rf (v73)), (3, .int (v17)), (0, va_rf (some this)), (1, .int (x1)), (2, .int (x2))]) dX0_path_76 (by decide) rfl ?_
          refine zv_aload_n X 2 dX0_path_78 rfl ?_
          refine zv_getf_r X fo_q402 dX0_path_79 h (fun v79 h => ?_)
          refine zv_getf_r X fo_q201 dX0_path_82 h (fun v82 h => ?_)
          refine zv_ciR ((zr_Vl X (As := []) (rest := []) h (fun a h => wk_J2_size l h) (zk_l1 ⟨_, rfl, cwV 0 X.hts (lw_V q672 q362 q363 q106 q364) rfl rfl rfl ⟨rfl, md_J2_size⟩ ⟨Nat.le_of_ble_eq_true rfl, Nat.le_of_ble_eq_true rfl⟩⟩) rfl rfl (zk_rs (Nat.le_of_ble_eq_true rfl)) dX0_path_85 ⟨by first | exact Nat.le_of_ble_eq_true rfl | omega | (dsimp only; omega), by first | exact Nat.le_of_ble_eq_true rfl | omega | (dsimp only; omega)⟩)) (fun v85 h => ?_)
          refine zv_istore X (L' := [(5, .int (v85)), (4, va_rf (v73)), (3, .int (v17)), (0, va_rf (some this)), (1, .int (x1)), (2, .int (x2))]) dX0_path_88 (by decide) (by simp [zk_s1, zk_s2, zk_rc, zk_ic, zk_jc]) ?_
          refine zv_aload_n X 3 dX0_path_90 rfl ?_
          refine zv_getf_r X fo_q402 dX0_path_91 h (fun v91 h => ?_)
          refine zv_new X zk_nc8 q1486 (by first | exact Nat.le_of_ble_eq_true rfl | omega | (dsimp only; omega)) (by first | exact Nat.le_of_ble_eq_true rfl | omega | (dsimp only; omega)) dX0_path_94 h (fun v94 P94 h => ?_)
          refine zv_dup X dX0_path_97 (zk_rc _) ?_
          refine zv_iload X 0 dX0_path_98 rfl ?_
          refine zv_aload_n X 3 dX0_path_100 rfl ?_
          refine zv_getf_r X fo_q402 dX0_path_101 h (fun v101 h => ?_)
          refine zv_getf_i X fo_q190 dX0_path_104 h (fun v104 h => ?_)
          refine zv_iload_n X 4 dX0_path_107 rfl ?_
          refine zv_iload_n X 5 dX0_path_108 rfl ?_
          refine zv_cv ((zr_I X (As := [.int (v85), .int (v104), .int (x1), .int (x2)]) (rest := [va_rf (some v94), va_rf (v91)]) (wk_X9_init l h) (cwI 4 X.hts (lw_meth q628) rfl rfl rfl (X.w q129) (X.w q1487) (X.w q627) rfl md_X9_init ⟨Nat.le_of_ble_eq_true rfl, Nat.le_of_ble_eq_true rfl⟩) rfl rfl (zk_rs (Nat.le_of_ble_eq_true rfl)) dX0_path_109 ⟨by first | exact Nat.le_of_ble_eq_true rfl | omega | (dsimp only; omega), by first | exact Nat.le_of_ble_eq_true rfl | omega | (dsimp only; omega)⟩)) (fun P109 h => ?_)
          refine zv_iload_n X 2 dX0_path_112 rfl ?_
          refine zv_cv ((zr_Vl X (As := [va_rf (some v94), .int (v17)]) (rest := []) h (fun a h => wk_X1_burdens l h) (zk_l1 ⟨_, rfl, cwV 2 X.hts (lw_V q1472 q1278 q1279 q103 q1280) rfl rfl rfl ⟨rfl, md_X1_burdens⟩ ⟨Nat.le_of_ble_eq_true rfl, Nat.le_of_ble_eq_true rfl⟩⟩) rfl rfl (zk_rs (Nat.le_of_ble_eq_true rfl)) dX0_path_113 ⟨by first | exact Nat.le_of_ble_eq_true rfl | omega | (dsimp only; omega), by first | exact Nat.le_of_ble_eq_true rfl | omega | (dsimp only; omega)⟩)) (fun P113 h => ?_)
          refine zv_aload_n X 3 dX0_path_116 rfl ?_
          refine zv_getf_r X fo_q402 dX0_path_117 h (fun v117 h => ?_)
          refine zv_iconst X (v := 5) dX0_path_120 rfl ?_
          refine zv_iload X 0 dX0_path_121 rfl ?_
          refine zv_iload_n X 2 dX0_path_123 rfl ?_
          refine zv_cv ((zr_Vl X (As := [.int (5), .int (v85), .int (v17)]) (rest := []) h (fun a h => wk_X1_logs l h) (zk_l1 ⟨_, rfl, cwV 3 X.hts (lw_V q1318 q1319 q1320 q103 q1321) rfl rfl rfl ⟨rfl, md_X1_logs⟩ ⟨Nat.le_of_ble_eq_true rfl, Nat.le_of_ble_eq_true rfl⟩⟩) rfl rfl (zk_rs (Nat.le_of_ble_eq_true rfl)) dX0_path_124 ⟨by first | exact Nat.le_of_ble_eq_true rfl | omega | (dsimp only; omega), by first | exact Nat.le_of_ble_eq_true rfl | omega | (dsimp only; omega)⟩)) (fun P124 h => ?_)
          refine zv_aload_n X 3 dX0_path_127 rfl ?_
          refine zv_aload X 1 dX0_path_128 rfl ?_
          refine zv_iload X 0 dX0_path_130 rfl ?_
          refine zv_ci ((zr_Vl X (As := [va_rf (v73), .int (v85)]) (rest := []) h (fun a h => wk_X0_done l h) (zk_l1 ⟨_, rfl, cwV 2 X.hts (lw_V q677 q679 qs7 q102 q680) rfl rfl rfl ⟨rfl, md_X0_done⟩ ⟨Nat.le_of_ble_eq_true rfl, Nat.le_of_ble_eq_true rfl⟩⟩) rfl rfl (zk_rs (Nat.le_of_ble_eq_true rfl)) dX0_path_132 ⟨by first | exact Nat.le_of_ble_eq_true rfl | omega | (dsimp only; omega), by first | exact Nat.le_of_ble_eq_true rfl | omega | (dsimp only; omega)⟩)) (fun v132 P132 h => ?_)
          exact zv_iret X rfl (by first | exact Nat.le_of_ble_eq_true rfl | omega | (dsimp only; omega)) (by first | exact Nat.le_of_ble_eq_true rfl | omega | (dsimp only; omega)) dX0_path_135 h
        · refine zv_bipush X (v := -3) dX0_path_66 rfl ?_
          exact zv_iret X rfl (by first | exact Nat.le_of_ble_eq_true rfl | omega | (dsimp only; omega)) (by first | exact Nat.le_of_ble_eq_true rfl | omega | (dsimp only; omega)) dX0_path_68 h
      · refine zv_bipush X (v := -2) dX0_path_48 rfl ?_
        exact zv_iret X rfl (by first | exact Nat.le_of_ble_eq_true rfl | omega | (dsimp only; omega)) (by first | exact Nat.le_of_ble_eq_true rfl | omega | (dsimp only; omega)) dX0_path_50 h
    · refine zv_bipush X (v := -4) dX0_path_32 rfl ?_
      exact zv_iret X rfl (by first | exact Nat.le_of_ble_eq_true rfl | omega | (dsimp only; omega)) (by first | exact Nat.le_of_ble_eq_true rfl | omega | (dsimp only; omega)) dX0_path_34 h
  · refine zv_iconst X (v := -1) dX0_path_9 rfl ?_
    exact zv_iret X rfl (by first | exact Nat.le_of_ble_eq_true rfl | omega | (dsimp only; omega)) (by first | exact Nat.le_of_ble_eq_true rfl | omega | (dsimp only; omega)) dX0_path_10 h
theorem md_X0_isBurden : yX0_isBurden.cls ≠ "java/lang/invoke/MethodHandle" ∧ yX0_isBurden.cls ≠ "java/lang/invoke/VarHandle" ∧ (parseMethodDescriptor yX0_isBurden.desc).map (fun d => d.parameters.length) = some 1 := by decide +kernel
theorem wk_X0_isBurden (l : Launch) {D : zk_G} {g : zk_M} {b0 : Nat} {post : Int32 → Prop} {this : Nat} {x1 : Int32} {P : zk_H} (hh : wp_X0_isBurden post this x1 P) : Met l yX0_isBurden (ws_ yX0_isBurden cX0_isBurden 2 (some Jvm.ClassFile.FieldType.boolean)) ({ frames := 1, cells := 0, slots := 0, locals := 22 } : Room) (va_Pc [.ref this, .int (x1)] (zk_pre D g b0 P)) (va_Qi (fun r u => post r ∧ u = P) (zk_B D b0) (zk_A b0)) 0 0 (zk_A b0) := by
  refine zk_enter "LandFolio" "isBurden" rfl rfl (plainFor_of_name (by decide)) [.ref this, .int (x1)] (Nat.le_of_ble_eq_true rfl) ?_
  intro p e s m args below meth c X
  refine zk_at0 (L' := [(0, va_rf (some this)), (1, .int (x1))]) (rfl) ?_
  have h := hh
  unfold wp_X0_isBurden at h
  refine zv_iload_n X 1 dX0_isBurden_0 rfl ?_
  refine zv_iconst X (v := 0) dX0_isBurden_1 rfl ?_
  refine zv_aload_n X 0 dX0_isBurden_2 rfl ?_
  refine zv_getf_r X fo_q402 dX0_isBurden_3 h (fun v3 h => ?_)
  refine zv_getf_r X fo_q201 dX0_isBurden_6 h (fun v6 h => ?_)
  refine zv_ciR ((zr_Vl X (As := []) (rest := [.int (0), .int (x1)]) h (fun a h => wk_J2_size l h) (zk_l1 ⟨_, rfl, cwV 0 X.hts (lw_V q672 q362 q363 q106 q364) rfl rfl rfl ⟨rfl, md_J2_size⟩ ⟨Nat.le_of_ble_eq_true rfl, Nat.le_of_ble_eq_true rfl⟩⟩) rfl rfl (zk_rs (Nat.le_of_ble_eq_true rfl)) dX0_isBurden_9 ⟨by first | exact Nat.le_of_ble_eq_true rfl | omega | (dsimp only; omega), by first | exact Nat.le_of_ble_eq_true rfl | omega | (dsimp only; omega)⟩)) (fun v9 h => ?_)
  refine zv_iconst X (v := 1) dX0_isBurden_12 rfl ?_
  refine zv_isub X dX0_isBurden_13 ?_
  refine zv_ciR ((zr_S X (As := [.int (x1), .int (0), .int (v9 - 1)]) (rest := []) (wk_X0_isIn l h) (va_cwS 3 X.hts (lw_S q462 q463 q102 q464) rfl rfl rfl md_X0_isIn ⟨Nat.le_of_ble_eq_true rfl, Nat.le_of_ble_eq_true rfl⟩) rfl rfl (zk_rs (Nat.le_of_ble_eq_true rfl)) dX0_isBurden_14 ⟨by first | exact Nat.le_of_ble_eq_true rfl | omega | (dsimp only; omega), by first | exact Nat.le_of_ble_eq_true rfl | omega | (dsimp only; omega)⟩)) (fun v14 h => ?_)
  obtain ⟨hb, h⟩ := h
  exact zv_zret X (ty := .boolean) rfl (by first | exact Nat.le_of_ble_eq_true rfl | omega | (dsimp only; omega)) (by first | exact Nat.le_of_ble_eq_true rfl | omega | (dsimp only; omega)) dX0_isBurden_17 ⟨hb, ⟨h, rfl⟩⟩
theorem md_X7_isEnded : yX7_isEnded.cls ≠ "java/lang/invoke/MethodHandle" ∧ yX7_isEnded.cls ≠ "java/lang/invoke/VarHandle" ∧ (parseMethodDescriptor yX7_isEnded.desc).map (fun d => d.parameters.length) = some 0 := by decide +kernel
theorem wk_X7_isEnded (l : Launch) {D : zk_G} {g : zk_M} {b0 : Nat} {post : Int32 → Prop} {this : Nat} {P : zk_H} (hh : wp_X7_isEnded post this P) : Met l yX7_isEnded (ws_ yX7_isEnded cX7_isEnded 1 (some Jvm.ClassFile.FieldType.boolean)) ({ frames := 1, cells := 0, slots := 0, locals := 20 } : Room) (va_Pc [.ref this] (zk_pre D g b0 P)) (va_Qi (fun r u => post r ∧ u = P) (zk_B D b0) (zk_A b0)) 0 0 (zk_A b0) := by
  refine zk_enter "LandFolio$Burden" "isEnded" rfl rfl (plainFor_of_name (by decide)) [.ref this] (Nat.le_of_ble_eq_true rfl) ?_
  intro p e s m args below meth c X
  refine zk_at0 (L' := [(0, va_rf (some this))]) (rfl) ?_
  have h := hh
  unfold wp_X7_isEnded at h
  refine zv_aload_n X 0 dX7_isEnded_0 rfl ?_
  refine zv_getf_r X fo_q599 dX7_isEnded_1 h (fun v1 h => ?_)
  refine zv_ciR ((zr_Vl X (As := []) (rest := []) h (fun a h => wk_J16_isEmpty l h) (zk_l1 ⟨_, rfl, cwV 0 X.hts (lw_V q1503 q1504 q1505 q126 q1506) rfl rfl rfl ⟨rfl, md_J16_isEmpty⟩ ⟨Nat.le_of_ble_eq_true rfl, Nat.le_of_ble_eq_true rfl⟩⟩) rfl rfl (zk_rs (Nat.le_of_ble_eq_true rfl)) dX7_isEnded_4 ⟨by first | exact Nat.le_of_ble_eq_true rfl | omega | (dsimp only; omega), by first | exact Nat.le_of_ble_eq_true rfl | omega | (dsimp only; omega)⟩)) (fun v4 h => ?_)
  obtain ⟨hb, h⟩ := h
  exact zv_zret X (ty := .boolean) rfl (by first | exact Nat.le_of_ble_eq_true rfl | omega | (dsimp only; omega)) (by first | exact Nat.le_of_ble_eq_true rfl | omega | (dsimp only; omega)) dX7_isEnded_7 ⟨hb, ⟨h, rfl⟩⟩
theorem kj_X0_pay_96 {p : Program} {l : Launch} {e : Env} {s : State} {m : MethodId} {args : Array Value} {below : List Frame} {meth : Method} {c : Code} {D : zk_G} {g : zk_M} {b0 : Nat} (X : zk_X p s m args meth c D g b0 cX0_pay 5 "LandFolio" "pay" (some Jvm.ClassFile.FieldType.int)) {post : Int32 → zk_H → Prop}  {a0 : Option Nat} {a1 : Int32} {a3 : Option Nat} {a4 : Option Nat} {P : zk_H}    (hh : wj_X0_pay_96 g post a0 a1 a3 a4 P) : zV p l e ({ frames := 8, cells := 180, slots := 7230, locals := 195 } : Room) s m args below meth c D b0 5 (178) (7131) (MQ below (va_Qi post (zk_B D b0) (zk_A b0)) args s 180 7230 (zk_A b0)) P 96 [(0, va_rf (a0)), (1, .int (a1)), (3, va_rf (a3)), (4, va_rf (a4))] [] := by
  have h := hh
  unfold wj_X0_pay_96 at h
  refine zv_aload_n X 0 dX0_pay_96 rfl ?_
  refine zv_getf_r X fo_q402 dX0_pay_97 h (fun v97 h => ?_)
  refine zv_bipush X (v := 6) dX0_pay_100 rfl ?_
  refine zv_iload_n X 1 dX0_pay_102 rfl ?_
  refine zv_aload_n X 2 dX0_pay_103 rfl ?_
  refine zv_getf_i X fo_q591 dX0_pay_104 h (fun v104 h => ?_)
  refine zv_cv ((zr_Vl X (As := [.int (6), .int (a1), .int (v104)]) (rest := []) h (fun a h => wk_X1_logs l h) (zk_l1 ⟨_, rfl, cwV 3 X.hts (lw_V q1318 q1319 q1320 q103 q1321) rfl rfl rfl ⟨rfl, md_X1_logs⟩ ⟨Nat.le_of_ble_eq_true rfl, Nat.le_of_ble_eq_true rfl⟩⟩) rfl rfl (zk_rs (Nat.le_of_ble_eq_true rfl)) dX0_pay_107 ⟨by first | exact Nat.le_of_ble_eq_true rfl | omega | (dsimp only; omega), by first | exact Nat.le_of_ble_eq_true rfl | omega | (dsimp only; omega)⟩)) (fun P107 h => ?_)
  refine zv_aload_n X 0 dX0_pay_110 rfl ?_
  refine zv_aload X 3 dX0_pay_111 rfl ?_
  refine zv_aload_n X 2 dX0_pay_113 rfl ?_
  refine zv_getf_i X fo_q591 dX0_pay_114 h (fun v114 h => ?_)
  refine zv_ci ((zr_Vl X (As := [va_rf (a4), .int (v114)]) (rest := []) h (fun a h => wk_X0_done l h) (zk_l1 ⟨_, rfl, cwV 2 X.hts (lw_V q677 q679 qs7 q102 q680) rfl rfl rfl ⟨rfl, md_X0_done⟩ ⟨Nat.le_of_ble_eq_true rfl, Nat.le_of_ble_eq_true rfl⟩⟩) rfl rfl (zk_rs (Nat.le_of_ble_eq_true rfl)) dX0_pay_117 ⟨by first | exact Nat.le_of_ble_eq_true rfl | omega | (dsimp only; omega), by first | exact Nat.le_of_ble_eq_true rfl | omega | (dsimp only; omega)⟩)) (fun v117 P117 h => ?_)
  exact zv_iret X rfl (by first | exact Nat.le_of_ble_eq_true rfl | omega | (dsimp only; omega)) (by first | exact Nat.le_of_ble_eq_true rfl | omega | (dsimp only; omega)) dX0_pay_120 h
theorem md_X0_pay : yX0_pay.cls ≠ "java/lang/invoke/MethodHandle" ∧ yX0_pay.cls ≠ "java/lang/invoke/VarHandle" ∧ (parseMethodDescriptor yX0_pay.desc).map (fun d => d.parameters.length) = some 2 := by decide +kernel
theorem wk_X0_pay (l : Launch) {D : zk_G} {g : zk_M} {b0 : Nat} {post : Int32 → zk_H → Prop} {this : Nat} {x1 : Int32} {x2 : Int32} {P : zk_H} (hh : wp_X0_pay g post this x1 x2 P) : Met l yX0_pay (ws_ yX0_pay cX0_pay 5 (some Jvm.ClassFile.FieldType.int)) ({ frames := 8, cells := 180, slots := 7230, locals := 195 } : Room) (va_Pc [.ref this, .int (x1), .int (x2)] (zk_pre D g b0 P)) (va_Qi post (zk_B D b0) (zk_A b0)) 180 7230 (zk_A b0) := by
  refine zk_enter "LandFolio" "pay" rfl rfl (plainFor_of_name (by decide)) [.ref this, .int (x1), .int (x2)] (Nat.le_of_ble_eq_true rfl) ?_
  intro p e s m args below meth c X
  refine zk_at0 (L' := [(0, va_rf (some this)), (1, .int (x1)), (2, .int (x2))]) (rfl) ?_
  have h := hh
  unfold wp_X0_pay at h
  refine zv_aload_n X 0 dX0_pay_0 rfl ?_
  refine zv_iload_n X 1 dX0_pay_1 rfl ?_
  refine zv_ciR ((zr_Vl X (As := [.int (x1)]) (rest := []) h (fun a h => wk_X0_isBurden l h) (zk_l1 ⟨_, rfl, cwV 1 X.hts (lw_V q1492 q1494 qs35 q102 q1495) rfl rfl rfl ⟨rfl, md_X0_isBurden⟩ ⟨Nat.le_of_ble_eq_true rfl, Nat.le_of_ble_eq_true rfl⟩⟩) rfl rfl (zk_rs (Nat.le_of_ble_eq_true rfl)) dX0_pay_2 ⟨by first | exact Nat.le_of_ble_eq_true rfl | omega | (dsimp only; omega), by first | exact Nat.le_of_ble_eq_true rfl | omega | (dsimp only; omega)⟩)) (fun v2 h => ?_)
  refine zv_if_eq X (tgt := 19) dX0_pay_5 (by decide) h (fun h => ?_) (fun h => ?_)
  · refine zv_iconst X (v := -1) dX0_pay_19 rfl ?_
    exact zv_iret X rfl (by first | exact Nat.le_of_ble_eq_true rfl | omega | (dsimp only; omega)) (by first | exact Nat.le_of_ble_eq_true rfl | omega | (dsimp only; omega)) dX0_pay_20 h
  · refine zv_iload_n X 2 dX0_pay_8 rfl ?_
    refine zv_iconst X (v := 1) dX0_pay_9 rfl ?_
    refine zv_sipush X (v := 9999) dX0_pay_10 rfl ?_
    refine zv_ciR ((zr_S X (As := [.int (x2), .int (1), .int (9999)]) (rest := []) (wk_X0_isIn l h) (va_cwS 3 X.hts (lw_S q462 q463 q102 q464) rfl rfl rfl md_X0_isIn ⟨Nat.le_of_ble_eq_true rfl, Nat.le_of_ble_eq_true rfl⟩) rfl rfl (zk_rs (Nat.le_of_ble_eq_true rfl)) dX0_pay_13 ⟨by first | exact Nat.le_of_ble_eq_true rfl | omega | (dsimp only; omega), by first | exact Nat.le_of_ble_eq_true rfl | omega | (dsimp only; omega)⟩)) (fun v13 h => ?_)
    refine zv_if_ne X (tgt := 21) dX0_pay_16 (by decide) h (fun h => ?_) (fun h => ?_)
    · refine zv_aload_n X 0 dX0_pay_21 rfl ?_
      refine zv_getf_r X fo_q402 dX0_pay_22 h (fun v22 h => ?_)
      refine zv_iload_n X 1 dX0_pay_25 rfl ?_
      refine zv_cqR ((zr_Vl X (As := [.int (x1)]) (rest := []) h (fun a h => wk_X1_burden l h) (zk_l1 ⟨_, rfl, cwV 1 X.hts (lw_V q1496 q526 q527 q103 q528) rfl rfl rfl ⟨rfl, md_X1_burden⟩ ⟨Nat.le_of_ble_eq_true rfl, Nat.le_of_ble_eq_true rfl⟩⟩) rfl rfl (zk_rs (Nat.le_of_ble_eq_true rfl)) dX0_pay_26 ⟨by first | exact Nat.le_of_ble_eq_true rfl | omega | (dsimp only; omega), by first | exact Nat.le_of_ble_eq_true rfl | omega | (dsimp only; omega)⟩)) (fun v26 h => ?_)
      refine zv_astore X (L' := [(4, va_rf (v26)), (0, va_rf (some this)), (1, .int (x1)), (2, .int (x2))]) dX0_pay_29 (by decide) rfl ?_
      refine zv_aload X 0 dX0_pay_31 rfl ?_
      refine zv_inst X zk_cs7 (zk_l1 ⟨_, rfl, X.nc (i := 1) rfl⟩) q1470 dX0_pay_33 h (fun v33 h => ?_)
      refine zv_if_eq X (tgt := 60) dX0_pay_36 (by decide) h (fun h => ?_) (fun h => ?_)
      · refine zv_bipush X (v := -4) dX0_pay_60 rfl ?_
        exact zv_iret X rfl (by first | exact Nat.le_of_ble_eq_true rfl | omega | (dsimp only; omega)) (by first | exact Nat.le_of_ble_eq_true rfl | omega | (dsimp only; omega)) dX0_pay_62 h
      · refine zv_aload X 0 dX0_pay_39 rfl ?_
        refine zv_cast X zk_cs7 q1470 dX0_pay_41 h (fun h => ?_)
        refine zv_astore_n X (i := 3) (L' := [(3, va_rf (v26)), (4, va_rf (v26)), (0, va_rf (some this)), (1, .int (x1)), (2, .int (x2))]) dX0_pay_44 rfl (by decide) rfl ?_
        refine zv_aload_n X 0 dX0_pay_45 rfl ?_
        refine zv_ciR ((zr_Ul X (As := []) (rest := []) h (fun a h => wk_X7_isEnded l h) (zk_l1 ⟨_, rfl, _, va_cwU 0 X.hts (zk_wsU q1497 q1498 q1500 q1501 q127 q1502) rfl rfl rfl rfl md_X7_isEnded ⟨Nat.le_of_ble_eq_true rfl, Nat.le_of_ble_eq_true rfl⟩⟩) rfl rfl (zk_rs (Nat.le_of_ble_eq_true rfl)) dX0_pay_46 ⟨by first | exact Nat.le_of_ble_eq_true rfl | omega | (dsimp only; omega), by first | exact Nat.le_of_ble_eq_true rfl | omega | (dsimp only; omega)⟩)) (fun v46 h => ?_)
        refine zv_if_ne X (tgt := 60) dX0_pay_49 (by decide) h (fun h => ?_) (fun h => ?_)
        · refine zv_bipush X (v := -4) dX0_pay_60 rfl ?_
          exact zv_iret X rfl (by first | exact Nat.le_of_ble_eq_true rfl | omega | (dsimp only; omega)) (by first | exact Nat.le_of_ble_eq_true rfl | omega | (dsimp only; omega)) dX0_pay_62 h
        · refine zv_aload_n X 0 dX0_pay_52 rfl ?_
          refine zv_getf_i X fo_q591 dX0_pay_53 h (fun v53 h => ?_)
          refine zv_iload_n X 4 dX0_pay_56 rfl ?_
          refine zv_icmp_ge X (tgt := 63) dX0_pay_57 (by decide) h (fun h => ?_) (fun h => ?_)
          · refine zv_aload_n X 2 dX0_pay_63 rfl ?_
            refine zv_getf_r X fo_q402 dX0_pay_64 h (fun v64 h => ?_)
            refine zv_cq ((zr_Vl X (As := []) (rest := []) h (fun a h => wk_X1_copied l h) (zk_l1 ⟨_, rfl, cwV 0 X.hts (lw_V q465 q466 q467 q103 q468) rfl rfl rfl ⟨rfl, md_X1_copied⟩ ⟨Nat.le_of_ble_eq_true rfl, Nat.le_of_ble_eq_true rfl⟩⟩) rfl rfl (zk_rs (Nat.le_of_ble_eq_true rfl)) dX0_pay_67 ⟨by first | exact Nat.le_of_ble_eq_true rfl | omega | (dsimp only; omega), by first | exact Nat.le_of_ble_eq_true rfl | omega | (dsimp only; omega)⟩)) (fun v67 P67 h => ?_)
            refine zv_astore X (L' := [(4, va_rf (v67)), (3, va_rf (v26)), (0, va_rf (some this)), (1, .int (x1)), (2, .int (x2))]) dX0_pay_70 (by decide) (by simp [zk_s1, zk_s2, zk_rc, zk_ic, zk_jc]) ?_
            refine zv_aload_n X 1 dX0_pay_72 rfl ?_
            refine zv_dup X dX0_pay_73 (zk_rc _) ?_
            refine zv_getf_i X fo_q591 dX0_pay_74 h (fun v74 h => ?_)
            refine zv_iload_n X 4 dX0_pay_77 rfl ?_
            refine zv_isub X dX0_pay_78 ?_
            refine zv_put_i X fp_q591 (fun z => by cases z) dX0_pay_79 h (fun P79 h => ?_)
            refine zv_aload_n X 1 dX0_pay_82 rfl ?_
            refine zv_getf_i X fo_q591 dX0_pay_83 h (fun v83 h => ?_)
            refine zv_if_ne X (tgt := 96) dX0_pay_86 (by decide) h (fun h => ?_) (fun h => ?_)
            · refine zv_sub (L' := [(0, va_rf (some this)), (1, .int (x1)), (3, va_rf (v26)), (4, va_rf (v67))]) [2, 3, 1, 0] rfl ?_
              refine zv_widen (c2 := 178) (s2 := 7131) (by first | exact Nat.le_of_ble_eq_true rfl | omega | (dsimp only; omega)) (by first | exact Nat.le_of_ble_eq_true rfl | omega | (dsimp only; omega)) ?_
              exact kj_X0_pay_96 X  h
            · refine zv_aload_n X 1 dX0_pay_89 rfl ?_
              refine zv_getf_r X fo_q601 dX0_pay_90 h (fun v90 h => ?_)
              refine zv_cv ((zr_Vl X (As := []) (rest := []) h (fun a h => wk_J16_clear_2 l h) (zk_l1 ⟨_, rfl, cwV 0 X.hts (lw_V q1507 q1508 q1509 q126 q1510) rfl rfl rfl ⟨rfl, md_J16_clear_2⟩ ⟨Nat.le_of_ble_eq_true rfl, Nat.le_of_ble_eq_true rfl⟩⟩) rfl rfl (zk_rs (Nat.le_of_ble_eq_true rfl)) dX0_pay_93 ⟨by first | exact Nat.le_of_ble_eq_true rfl | omega | (dsimp only; omega), by first | exact Nat.le_of_ble_eq_true rfl | omega | (dsimp only; omega)⟩)) (fun P93 h => ?_)
              refine zv_sub (L' := [(0, va_rf (some this)), (1, .int (x1)), (3, va_rf (v26)), (4, va_rf (v67))]) [2, 3, 1, 0] rfl ?_
              refine zv_widen (c2 := 178) (s2 := 7131) (by first | exact Nat.le_of_ble_eq_true rfl | omega | (dsimp only; omega)) (by first | exact Nat.le_of_ble_eq_true rfl | omega | (dsimp only; omega)) ?_
              exact kj_X0_pay_96 X  h
          · refine zv_bipush X (v := -4) dX0_pay_60 rfl ?_
            exact zv_iret X rfl (by first | exact Nat.le_of_ble_eq_true rfl | omega | (dsimp only; omega)) (by first | exact Nat.le_of_ble_eq_true rfl | omega | (dsimp only; omega)) dX0_pay_62 h
    · refine zv_iconst X (v := -1) dX0_pay_19 rfl ?_
      exact zv_iret X rfl (by first | exact Nat.le_of_ble_eq_true rfl | omega | (dsimp only; omega)) (by first | exact Nat.le_of_ble_eq_true rfl | omega | (dsimp only; omega)) dX0_pay_20 h
theorem md_X2_area : yX2_area.cls ≠ "java/lang/invoke/MethodHandle" ∧ yX2_area.cls ≠ "java/lang/invoke/VarHandle" ∧ (parseMethodDescriptor yX2_area.desc).map (fun d => d.parameters.length) = some 0 := by decide +kernel
theorem wk_X2_area (l : Launch) {D : zk_G} {g : zk_M} {b0 : Nat} {post : Int32 → Prop} {this : Nat} {P : zk_H} (hh : wp_X2_area post this P) : Met l yX2_area (ws_ yX2_area cX2_area 1 (some Jvm.ClassFile.FieldType.int)) ({ frames := 0, cells := 0, slots := 0, locals := 0 } : Room) (va_Pc [.ref this] (zk_pre D g b0 P)) (va_Qi (fun r u => post r ∧ u = P) (zk_B D b0) (zk_A b0)) 0 0 (zk_A b0) := by
  refine zk_enter "LandFolio$Parcel" "area" rfl rfl (plainFor_of_name (by decide)) [.ref this] (Nat.le_of_ble_eq_true rfl) ?_
  intro p e s m args below meth c X
  refine zk_at0 (L' := [(0, va_rf (some this))]) (rfl) ?_
  have h := hh
  unfold wp_X2_area at h
  refine zv_aload_n X 0 dX2_area_0 rfl ?_
  refine zv_getf_i X fo_q313 dX2_area_1 h (fun v1 h => ?_)
  refine zv_aload_n X 0 dX2_area_4 rfl ?_
  refine zv_getf_i X fo_q317 dX2_area_5 h (fun v5 h => ?_)
  refine zv_imul X dX2_area_8 ?_
  exact zv_iret X rfl (by first | exact Nat.le_of_ble_eq_true rfl | omega | (dsimp only; omega)) (by first | exact Nat.le_of_ble_eq_true rfl | omega | (dsimp only; omega)) dX2_area_9 ⟨h, rfl⟩
theorem md_X1_value : yX1_value.cls ≠ "java/lang/invoke/MethodHandle" ∧ yX1_value.cls ≠ "java/lang/invoke/VarHandle" ∧ (parseMethodDescriptor yX1_value.desc).map (fun d => d.parameters.length) = some 1 := by decide +kernel
theorem wk_X1_value (l : Launch) {D : zk_G} {g : zk_M} {b0 : Nat} {post : Int32 → Prop} {this : Nat} {x1 : Int32} {P : zk_H} (hh : wp_X1_value post this x1 P) : Met l yX1_value (ws_ yX1_value cX1_value 2 (some Jvm.ClassFile.FieldType.int)) ({ frames := 4, cells := 0, slots := 0, locals := 85 } : Room) (va_Pc [.ref this, .int (x1)] (zk_pre D g b0 P)) (va_Qi (fun r u => post r ∧ u = P) (zk_B D b0) (zk_A b0)) 0 0 (zk_A b0) := by
  refine zk_enter "LandFolio$Folio" "value" rfl rfl (plainFor_of_name (by decide)) [.ref this, .int (x1)] (Nat.le_of_ble_eq_true rfl) ?_
  intro p e s m args below meth c X
  refine zk_at0 (L' := [(0, va_rf (some this)), (1, .int (x1))]) (rfl) ?_
  have h := hh
  unfold wp_X1_value at h
  refine zv_aload_n X 0 dX1_value_0 rfl ?_
  refine zv_iload_n X 1 dX1_value_1 rfl ?_
  refine zv_cqR ((zr_Vl X (As := [.int (x1)]) (rest := []) h (fun a h => wk_X1_parcel l h) (zk_l1 ⟨_, rfl, cwV 1 X.hts (lw_V q501 q502 q503 q103 q504) rfl rfl rfl ⟨rfl, md_X1_parcel⟩ ⟨Nat.le_of_ble_eq_true rfl, Nat.le_of_ble_eq_true rfl⟩⟩) rfl rfl (zk_rs (Nat.le_of_ble_eq_true rfl)) dX1_value_2 ⟨by first | exact Nat.le_of_ble_eq_true rfl | omega | (dsimp only; omega), by first | exact Nat.le_of_ble_eq_true rfl | omega | (dsimp only; omega)⟩)) (fun v2 h => ?_)
  refine zv_ciR ((zr_Vl X (As := []) (rest := []) h (fun a h => wk_X2_area l h) (zk_l1 ⟨_, rfl, cwV 0 X.hts (lw_V q1545 q1546 q1547 q111 q1548) rfl rfl rfl ⟨rfl, md_X2_area⟩ ⟨Nat.le_of_ble_eq_true rfl, Nat.le_of_ble_eq_true rfl⟩⟩) rfl rfl (zk_rs (Nat.le_of_ble_eq_true rfl)) dX1_value_5 ⟨by first | exact Nat.le_of_ble_eq_true rfl | omega | (dsimp only; omega), by first | exact Nat.le_of_ble_eq_true rfl | omega | (dsimp only; omega)⟩)) (fun v5 h => ?_)
  refine zv_aload_n X 0 dX1_value_8 rfl ?_
  refine zv_getf_i X fo_q187 dX1_value_9 h (fun v9 h => ?_)
  refine zv_imul X dX1_value_12 ?_
  exact zv_iret X rfl (by first | exact Nat.le_of_ble_eq_true rfl | omega | (dsimp only; omega)) (by first | exact Nat.le_of_ble_eq_true rfl | omega | (dsimp only; omega)) dX1_value_13 ⟨h, rfl⟩
theorem kj_X1_ahead_71 {p : Program} {l : Launch} {e : Env} {s : State} {m : MethodId} {args : Array Value} {below : List Frame} {meth : Method} {c : Code} {D : zk_G} {g : zk_M} {b0 : Nat} (X : zk_X p s m args meth c D g b0 cX1_ahead 7 "LandFolio$Folio" "ahead" (some Jvm.ClassFile.FieldType.int)) {post : Int32 → Prop} {K5 : Int32 → Int32 → Prop} {a0 : Option Nat} {a1 : Option Nat} {a2 : Int32} {a4 : Int32} {s0 : Int32} {s1 : Int32} {P : zk_H}  (hK5 : ∀ (u3 : Int32) (u4 : Int32), K5 u3 u4 → zV p l e ({ frames := 4, cells := 0, slots := 0, locals := 85 } : Room) s m args below meth c D b0 7 (0) (0) (MQ below (va_Qi (fun r u => post r ∧ u = P) (zk_B D b0) (zk_A b0)) args s 0 0 (zk_A b0)) P 5 [(0, va_rf (a0)), (1, va_rf (a1)), (2, .int (a2)), (3, .int (u3)), (4, .int (u4))] [])  (hh : wj_X1_ahead_71 post K5 a0 a1 a2 a4 s0 s1 P) : zV p l e ({ frames := 4, cells := 0, slots := 0, locals := 85 } : Room) s m args below meth c D b0 7 (0) (0) (MQ below (va_Qi (fun r u => post r ∧ u = P) (zk_B D b0) (zk_A b0)) args s 0 0 (zk_A b0)) P 71 [(0, va_rf (a0)), (1, va_rf (a1)), (2, .int (a2)), (4, .int (a4))] [.int (s0), .int (s1)] := by
  have h := hh
  unfold wj_X1_ahead_71 at h
  refine zv_iadd X dX1_ahead_71 ?_
  refine zv_top_i h (fun v72 h => ?_)
  refine zv_istore_n X (i := 3) (L' := [(3, .int (v72)), (0, va_rf (a0)), (1, va_rf (a1)), (2, .int (a2)), (4, .int (a4))]) dX1_ahead_72 rfl (by decide) rfl ?_
  obtain ⟨v73, e73, h⟩ := zt_e h
  refine zv_iinc X (v := v73) (L' := [(4, .int (v73)), (3, .int (v72)), (0, va_rf (a0)), (1, va_rf (a1)), (2, .int (a2))]) 4 dX1_ahead_73 rfl e73 (by decide) rfl ?_
  refine zv_goto X (tgt := 5) dX1_ahead_76 (by decide) ?_
  refine zv_sub (L' := [(0, va_rf (a0)), (1, va_rf (a1)), (2, .int (a2)), (3, .int (v72)), (4, .int (v73))]) [2, 3, 4, 1, 0] rfl ?_
  exact hK5 _ _ h
theorem kj_X1_ahead_70 {p : Program} {l : Launch} {e : Env} {s : State} {m : MethodId} {args : Array Value} {below : List Frame} {meth : Method} {c : Code} {D : zk_G} {g : zk_M} {b0 : Nat} (X : zk_X p s m args meth c D g b0 cX1_ahead 7 "LandFolio$Folio" "ahead" (some Jvm.ClassFile.FieldType.int)) {post : Int32 → Prop} {K5 : Int32 → Int32 → Prop} {a0 : Option Nat} {a1 : Option Nat} {a2 : Int32} {a4 : Int32} {s0 : Int32} {P : zk_H}  (hK5 : ∀ (u3 : Int32) (u4 : Int32), K5 u3 u4 → zV p l e ({ frames := 4, cells := 0, slots := 0, locals := 85 } : Room) s m args below meth c D b0 7 (0) (0) (MQ below (va_Qi (fun r u => post r ∧ u = P) (zk_B D b0) (zk_A b0)) args s 0 0 (zk_A b0)) P 5 [(0, va_rf (a0)), (1, va_rf (a1)), (2, .int (a2)), (3, .int (u3)), (4, .int (u4))] [])  (hh : wj_X1_ahead_70 post K5 a0 a1 a2 a4 s0 P) : zV p l e ({ frames := 4, cells := 0, slots := 0, locals := 85 } : Room) s m args below meth c D b0 7 (0) (0) (MQ below (va_Qi (fun r u => post r ∧ u = P) (zk_B D b0) (zk_A b0)) args s 0 0 (zk_A b0)) P 70 [(0, va_rf (a0)), (1, va_rf (a1)), (2, .int (a2)), (4, .int (a4))] [.int (s0)] := by
  have h := hh
  unfold wj_X1_ahead_70 at h
  refine zv_iconst X (v := 0) dX1_ahead_70 rfl ?_
  exact kj_X1_ahead_71 X hK5 h
theorem kb_X1_ahead_5 {p : Program} {l : Launch} {e : Env} {s : State} {m : MethodId} {args : Array Value} {below : List Frame} {meth : Method} {c : Code} {D : zk_G} {g : zk_M} {b0 : Nat} (X : zk_X p s m args meth c D g b0 cX1_ahead 7 "LandFolio$Folio" "ahead" (some Jvm.ClassFile.FieldType.int)) {post : Int32 → Prop}  {K5 : Int32 → Int32 → Prop} {a0 : Option Nat} {a1 : Option Nat} {a2 : Int32} {a3 : Int32} {a4 : Int32} {P : zk_H}   (hK5 : ∀ (u3 : Int32) (u4 : Int32), K5 u3 u4 → zV p l e ({ frames := 4, cells := 0, slots := 0, locals := 85 } : Room) s m args below meth c D b0 7 (0) (0) (MQ below (va_Qi (fun r u => post r ∧ u = P) (zk_B D b0) (zk_A b0)) args s 0 0 (zk_A b0)) P 5 [(0, va_rf (a0)), (1, va_rf (a1)), (2, .int (a2)), (3, .int (u3)), (4, .int (u4))] [])  (hh : wb_X1_ahead_5 post a0 a1 a2 P K5 a3 a4) : zV p l e ({ frames := 4, cells := 0, slots := 0, locals := 85 } : Room) s m args below meth c D b0 7 (0) (0) (MQ below (va_Qi (fun r u => post r ∧ u = P) (zk_B D b0) (zk_A b0)) args s 0 0 (zk_A b0)) P 5 [(0, va_rf (a0)), (1, va_rf (a1)), (2, .int (a2)), (3, .int (a3)), (4, .int (a4))] [] := by
  have h := hh
  unfold wb_X1_ahead_5 at h
  refine zv_iload X 4 dX1_ahead_5 rfl ?_
  refine zv_aload_n X 0 dX1_ahead_7 rfl ?_
  refine zv_getf_r X fo_q199 dX1_ahead_8 h (fun v8 h => ?_)
  refine zv_ciR ((zr_Vl X (As := []) (rest := [.int (a4)]) h (fun a h => wk_J2_size l h) (zk_l1 ⟨_, rfl, cwV 0 X.hts (lw_V q361 q362 q363 q106 q364) rfl rfl rfl ⟨rfl, md_J2_size⟩ ⟨Nat.le_of_ble_eq_true rfl, Nat.le_of_ble_eq_true rfl⟩⟩) rfl rfl (zk_rs (Nat.le_of_ble_eq_true rfl)) dX1_ahead_11 ⟨by first | exact Nat.le_of_ble_eq_true rfl | omega | (dsimp only; omega), by first | exact Nat.le_of_ble_eq_true rfl | omega | (dsimp only; omega)⟩)) (fun v11 h => ?_)
  refine zv_icmp_ge X (tgt := 79) dX1_ahead_14 (by decide) h (fun h => ?_) (fun h => ?_)
  · refine zv_iload_n X 3 dX1_ahead_79 rfl ?_
    exact zv_iret X rfl (by first | exact Nat.le_of_ble_eq_true rfl | omega | (dsimp only; omega)) (by first | exact Nat.le_of_ble_eq_true rfl | omega | (dsimp only; omega)) dX1_ahead_80 ⟨h, rfl⟩
  · refine zv_iload_n X 3 dX1_ahead_17 rfl ?_
    refine zv_aload_n X 0 dX1_ahead_18 rfl ?_
    refine zv_iload X 4 dX1_ahead_19 rfl ?_
    refine zv_cqR ((zr_Vl X (As := [.int (a4)]) (rest := [.int (a3)]) h (fun a h => wk_X1_burden l h) (zk_l1 ⟨_, rfl, cwV 1 X.hts (lw_V q525 q526 q527 q103 q528) rfl rfl rfl ⟨rfl, md_X1_burden⟩ ⟨Nat.le_of_ble_eq_true rfl, Nat.le_of_ble_eq_true rfl⟩⟩) rfl rfl (zk_rs (Nat.le_of_ble_eq_true rfl)) dX1_ahead_21 ⟨by first | exact Nat.le_of_ble_eq_true rfl | omega | (dsimp only; omega), by first | exact Nat.le_of_ble_eq_true rfl | omega | (dsimp only; omega)⟩)) (fun v21 h => ?_)
    refine zv_astore X (L' := [(6, va_rf (v21)), (0, va_rf (a0)), (1, va_rf (a1)), (2, .int (a2)), (3, .int (a3)), (4, .int (a4))]) dX1_ahead_24 (by decide) rfl ?_
    refine zv_aload X 0 dX1_ahead_26 rfl ?_
    refine zv_inst X zk_cs7 (zk_l1 ⟨_, rfl, X.nc (i := 1) rfl⟩) q1553 dX1_ahead_28 h (fun v28 h => ?_)
    refine zv_if_eq X (tgt := 70) dX1_ahead_31 (by decide) h (fun h => ?_) (fun h => ?_)
    · refine zv_sub (L' := [(0, va_rf (a0)), (1, va_rf (a1)), (2, .int (a2)), (4, .int (a4))]) [1, 2, 3, 5] rfl ?_
      exact kj_X1_ahead_70 X hK5 h
    · refine zv_aload X 0 dX1_ahead_34 rfl ?_
      refine zv_cast X zk_cs7 q1553 dX1_ahead_36 h (fun h => ?_)
      refine zv_astore X (L' := [(5, va_rf (v21)), (6, va_rf (v21)), (0, va_rf (a0)), (1, va_rf (a1)), (2, .int (a2)), (3, .int (a3)), (4, .int (a4))]) dX1_ahead_39 (by decide) rfl ?_
      refine zv_aload X 0 dX1_ahead_41 rfl ?_
      refine zv_iload_n X 4 dX1_ahead_43 rfl ?_
      refine zv_ciR ((zr_Ul X (As := [.int (a2)]) (rest := [.int (a3)]) h (fun a h => wk_X7_isOn l h) (zk_l1 ⟨_, rfl, _, va_cwU 1 X.hts (zk_wsU q1554 q1555 q1556 q1207 q127 q1211) rfl rfl rfl rfl md_X7_isOn ⟨Nat.le_of_ble_eq_true rfl, Nat.le_of_ble_eq_true rfl⟩⟩) rfl rfl (zk_rs (Nat.le_of_ble_eq_true rfl)) dX1_ahead_44 ⟨by first | exact Nat.le_of_ble_eq_true rfl | omega | (dsimp only; omega), by first | exact Nat.le_of_ble_eq_true rfl | omega | (dsimp only; omega)⟩)) (fun v44 h => ?_)
      refine zv_if_eq X (tgt := 70) dX1_ahead_47 (by decide) h (fun h => ?_) (fun h => ?_)
      · refine zv_sub (L' := [(0, va_rf (a0)), (1, va_rf (a1)), (2, .int (a2)), (4, .int (a4))]) [2, 3, 4, 6] rfl ?_
        exact kj_X1_ahead_70 X hK5 h
      · refine zv_aload X 0 dX1_ahead_50 rfl ?_
        refine zv_getf_i X fo_q597 dX1_ahead_52 h (fun v52 h => ?_)
        refine zv_aload_n X 3 dX1_ahead_55 rfl ?_
        refine zv_getf_i X fo_q597 dX1_ahead_56 h (fun v56 h => ?_)
        refine zv_icmp_ge X (tgt := 70) dX1_ahead_59 (by decide) h (fun h => ?_) (fun h => ?_)
        · refine zv_sub (L' := [(0, va_rf (a0)), (1, va_rf (a1)), (2, .int (a2)), (4, .int (a4))]) [2, 3, 4, 6] rfl ?_
          exact kj_X1_ahead_70 X hK5 h
        · refine zv_aload X 0 dX1_ahead_62 rfl ?_
          refine zv_getf_i X fo_q590 dX1_ahead_64 h (fun v64 h => ?_)
          refine zv_goto X (tgt := 71) dX1_ahead_67 (by decide) ?_
          refine zv_sub (L' := [(0, va_rf (a0)), (1, va_rf (a1)), (2, .int (a2)), (4, .int (a4))]) [2, 3, 4, 6] rfl ?_
          exact kj_X1_ahead_71 X hK5 h
theorem kl_X1_ahead_5 {p : Program} {l : Launch} {e : Env} {s : State} {m : MethodId} {args : Array Value} {below : List Frame} {meth : Method} {c : Code} {D : zk_G} {g : zk_M} {b0 : Nat} (X : zk_X p s m args meth c D g b0 cX1_ahead 7 "LandFolio$Folio" "ahead" (some Jvm.ClassFile.FieldType.int)) {post : Int32 → Prop}  {a0 : Option Nat} {a1 : Option Nat} {a2 : Int32} {P : zk_H}   : ∀ (n : Nat) (a3 : Int32) (a4 : Int32), wl_X1_ahead_5 post a0 a1 a2 P n a3 a4 → zV p l e ({ frames := 4, cells := 0, slots := 0, locals := 85 } : Room) s m args below meth c D b0 7 (0) (0) (MQ below (va_Qi (fun r u => post r ∧ u = P) (zk_B D b0) (zk_A b0)) args s 0 0 (zk_A b0)) P 5 [(0, va_rf (a0)), (1, va_rf (a1)), (2, .int (a2)), (3, .int (a3)), (4, .int (a4))] [] := by
  intro n
  induction n with
  | zero => intro _ _ h; exact h.elim
  | succ n ih =>
    intro a3 a4 h
    exact kb_X1_ahead_5 X  (fun u0 u1 h => ih _ _ h)  h
theorem md_X1_ahead : yX1_ahead.cls ≠ "java/lang/invoke/MethodHandle" ∧ yX1_ahead.cls ≠ "java/lang/invoke/VarHandle" ∧ (parseMethodDescriptor yX1_ahead.desc).map (fun d => d.parameters.length) = some 2 := by decide +kernel
theorem wk_X1_ahead (l : Launch) {D : zk_G} {g : zk_M} {b0 : Nat} {post : Int32 → Prop} {this : Nat} {x1 : Option Nat} {x2 : Int32} {P : zk_H} (hh : wp_X1_ahead post this x1 x2 P) : Met l yX1_ahead (ws_ yX1_ahead cX1_ahead 7 (some Jvm.ClassFile.FieldType.int)) ({ frames := 4, cells := 0, slots := 0, locals := 85 } : Room) (va_Pc [.ref this, va_rf (x1), .int (x2)] (zk_pre D g b0 P)) (va_Qi (fun r u => post r ∧ u = P) (zk_B D b0) (zk_A b0)) 0 0 (zk_A b0) := by
  refine zk_enter "LandFolio$Folio" "ahead" rfl rfl (plainFor_of_name (by decide)) [.ref this, va_rf (x1), .int (x2)] (by cases x1 <;> exact Nat.le_of_ble_eq_true rfl) ?_
  intro p e s m args below meth c X
  refine zk_at0 (L' := [(0, va_rf (some this)), (1, va_rf (x1)), (2, .int (x2))]) (by cases x1 <;> rfl) ?_
  have h := hh
  unfold wp_X1_ahead at h
  refine zv_iconst X (v := 0) dX1_ahead_0 rfl ?_
  refine zv_istore_n X (i := 3) (L' := [(3, .int (0)), (0, va_rf (some this)), (1, va_rf (x1)), (2, .int (x2))]) dX1_ahead_1 rfl (by decide) rfl ?_
  refine zv_iconst X (v := 0) dX1_ahead_2 rfl ?_
  refine zv_istore X (L' := [(4, .int (0)), (3, .int (0)), (0, va_rf (some this)), (1, va_rf (x1)), (2, .int (x2))]) dX1_ahead_3 (by decide) rfl ?_
  refine zv_sub (L' := [(0, va_rf (some this)), (1, va_rf (x1)), (2, .int (x2)), (3, .int (0)), (4, .int (0))]) [2, 3, 4, 1, 0] rfl ?_
  obtain ⟨n3, h⟩ := h
  exact kl_X1_ahead_5 X  n3 _ _ h
theorem kj_X1_cover_46 {p : Program} {l : Launch} {e : Env} {s : State} {m : MethodId} {args : Array Value} {below : List Frame} {meth : Method} {c : Code} {D : zk_G} {g : zk_M} {b0 : Nat} (X : zk_X p s m args meth c D g b0 cX1_cover 5 "LandFolio$Folio" "cover" (some Jvm.ClassFile.FieldType.int)) {post : Int32 → Prop} {K12 : Int32 → Int32 → Prop} {a0 : Option Nat} {a1 : Option Nat} {a2 : Int32} {a4 : Int32} {s0 : Int32} {s1 : Int32} {P : zk_H}  (hK12 : ∀ (u3 : Int32) (u4 : Int32), K12 u3 u4 → zV p l e ({ frames := 5, cells := 0, slots := 0, locals := 111 } : Room) s m args below meth c D b0 5 (0) (0) (MQ below (va_Qi (fun r u => post r ∧ u = P) (zk_B D b0) (zk_A b0)) args s 0 0 (zk_A b0)) P 12 [(0, va_rf (a0)), (1, va_rf (a1)), (2, .int (a2)), (3, .int (u3)), (4, .int (u4))] [])  (hh : wj_X1_cover_46 post K12 a0 a1 a2 a4 s0 s1 P) : zV p l e ({ frames := 5, cells := 0, slots := 0, locals := 111 } : Room) s m args below meth c D b0 5 (0) (0) (MQ below (va_Qi (fun r u => post r ∧ u = P) (zk_B D b0) (zk_A b0)) args s 0 0 (zk_A b0)) P 46 [(0, va_rf (a0)), (1, va_rf (a1)), (2, .int (a2)), (4, .int (a4))] [.int (s0), .int (s1)] := by
  have h := hh
  unfold wj_X1_cover_46 at h
  refine zv_iadd X dX1_cover_46 ?_
  refine zv_top_i h (fun v47 h => ?_)
  refine zv_istore_n X (i := 3) (L' := [(3, .int (v47)), (0, va_rf (a0)), (1, va_rf (a1)), (2, .int (a2)), (4, .int (a4))]) dX1_cover_47 rfl (by decide) rfl ?_
  refine zv_aload_n X 2 dX1_cover_48 rfl ?_
  refine zv_getf_r X fo_q600 dX1_cover_49 h (fun v49 h => ?_)
  refine zv_iload X 4 dX1_cover_52 rfl ?_
  refine zv_iconst X (v := 1) dX1_cover_54 rfl ?_
  refine zv_iadd X dX1_cover_55 ?_
  refine zv_ciR ((zr_Vl X (As := [.int (a4 + 1)]) (rest := []) h (fun a h => wk_J16_nextSetBit l h) (zk_l1 ⟨_, rfl, cwV 1 X.hts (lw_V q1530 q1531 q1532 q126 q1533) rfl rfl rfl ⟨rfl, md_J16_nextSetBit⟩ ⟨Nat.le_of_ble_eq_true rfl, Nat.le_of_ble_eq_true rfl⟩⟩) rfl rfl (zk_rs (Nat.le_of_ble_eq_true rfl)) dX1_cover_56 ⟨by first | exact Nat.le_of_ble_eq_true rfl | omega | (dsimp only; omega), by first | exact Nat.le_of_ble_eq_true rfl | omega | (dsimp only; omega)⟩)) (fun v56 h => ?_)
  refine zv_istore X (L' := [(4, .int (v56)), (3, .int (v47)), (0, va_rf (a0)), (1, va_rf (a1)), (2, .int (a2))]) dX1_cover_59 (by decide) rfl ?_
  refine zv_goto X (tgt := 12) dX1_cover_61 (by decide) ?_
  refine zv_sub (L' := [(0, va_rf (a0)), (1, va_rf (a1)), (2, .int (a2)), (3, .int (v47)), (4, .int (v56))]) [2, 3, 4, 1, 0] rfl ?_
  exact hK12 _ _ h
theorem kb_X1_cover_12 {p : Program} {l : Launch} {e : Env} {s : State} {m : MethodId} {args : Array Value} {below : List Frame} {meth : Method} {c : Code} {D : zk_G} {g : zk_M} {b0 : Nat} (X : zk_X p s m args meth c D g b0 cX1_cover 5 "LandFolio$Folio" "cover" (some Jvm.ClassFile.FieldType.int)) {post : Int32 → Prop}  {K12 : Int32 → Int32 → Prop} {a0 : Option Nat} {a1 : Option Nat} {a2 : Int32} {a3 : Int32} {a4 : Int32} {P : zk_H}   (hK12 : ∀ (u3 : Int32) (u4 : Int32), K12 u3 u4 → zV p l e ({ frames := 5, cells := 0, slots := 0, locals := 111 } : Room) s m args below meth c D b0 5 (0) (0) (MQ below (va_Qi (fun r u => post r ∧ u = P) (zk_B D b0) (zk_A b0)) args s 0 0 (zk_A b0)) P 12 [(0, va_rf (a0)), (1, va_rf (a1)), (2, .int (a2)), (3, .int (u3)), (4, .int (u4))] [])  (hh : wb_X1_cover_12 post a0 a1 a2 P K12 a3 a4) : zV p l e ({ frames := 5, cells := 0, slots := 0, locals := 111 } : Room) s m args below meth c D b0 5 (0) (0) (MQ below (va_Qi (fun r u => post r ∧ u = P) (zk_B D b0) (zk_A b0)) args s 0 0 (zk_A b0)) P 12 [(0, va_rf (a0)), (1, va_rf (a1)), (2, .int (a2)), (3, .int (a3)), (4, .int (a4))] [] := by
  have h := hh
  unfold wb_X1_cover_12 at h
  refine zv_iload X 4 dX1_cover_12 rfl ?_
  refine zv_if_lt X (tgt := 64) dX1_cover_14 (by decide) h (fun h => ?_) (fun h => ?_)
  · refine zv_iload_n X 3 dX1_cover_64 rfl ?_
    exact zv_iret X rfl (by first | exact Nat.le_of_ble_eq_true rfl | omega | (dsimp only; omega)) (by first | exact Nat.le_of_ble_eq_true rfl | omega | (dsimp only; omega)) dX1_cover_65 ⟨h, rfl⟩
  · refine zv_iload_n X 3 dX1_cover_17 rfl ?_
    refine zv_iload X 4 dX1_cover_18 rfl ?_
    refine zv_iload_n X 2 dX1_cover_20 rfl ?_
    refine zv_icmp_ne X (tgt := 28) dX1_cover_21 (by decide) h (fun h => ?_) (fun h => ?_)
    · refine zv_iconst X (v := 0) dX1_cover_28 rfl ?_
      refine zv_aload_n X 0 dX1_cover_29 rfl ?_
      refine zv_iload X 4 dX1_cover_30 rfl ?_
      refine zv_ciR ((zr_Vl X (As := [.int (a4)]) (rest := [.int (0), .int (a3)]) h (fun a h => wk_X1_value l h) (zk_l1 ⟨_, rfl, cwV 1 X.hts (lw_V q1541 q1542 q1543 q103 q1544) rfl rfl rfl ⟨rfl, md_X1_value⟩ ⟨Nat.le_of_ble_eq_true rfl, Nat.le_of_ble_eq_true rfl⟩⟩) rfl rfl (zk_rs (Nat.le_of_ble_eq_true rfl)) dX1_cover_32 ⟨by first | exact Nat.le_of_ble_eq_true rfl | omega | (dsimp only; omega), by first | exact Nat.le_of_ble_eq_true rfl | omega | (dsimp only; omega)⟩)) (fun v32 h => ?_)
      refine zv_aload_n X 0 dX1_cover_35 rfl ?_
      refine zv_aload_n X 1 dX1_cover_36 rfl ?_
      refine zv_iload X 4 dX1_cover_37 rfl ?_
      refine zv_ciR ((zr_Vl X (As := [va_rf (a1), .int (a4)]) (rest := [.int (v32), .int (0), .int (a3)]) h (fun a h => wk_X1_ahead l h) (zk_l1 ⟨_, rfl, cwV 2 X.hts (lw_V q1549 q1550 q1551 q103 q1552) rfl rfl rfl ⟨rfl, md_X1_ahead⟩ ⟨Nat.le_of_ble_eq_true rfl, Nat.le_of_ble_eq_true rfl⟩⟩) rfl rfl (zk_rs (Nat.le_of_ble_eq_true rfl)) dX1_cover_39 ⟨by first | exact Nat.le_of_ble_eq_true rfl | omega | (dsimp only; omega), by first | exact Nat.le_of_ble_eq_true rfl | omega | (dsimp only; omega)⟩)) (fun v39 h => ?_)
      refine zv_isub X dX1_cover_42 ?_
      refine zv_mmax X q1454 ⟨by first | decide | (dsimp only; decide), by first | decide | (dsimp only; decide)⟩ (zk_rs (Nat.le_of_ble_eq_true rfl)) (by first | exact Nat.le_of_ble_eq_true rfl | dsimp only; omega) (by first | exact Nat.le_of_ble_eq_true rfl | dsimp only; omega) dX1_cover_43 ?_
      refine zv_sub (L' := [(0, va_rf (a0)), (1, va_rf (a1)), (2, .int (a2)), (4, .int (a4))]) [0, 1, 2, 4] rfl ?_
      exact kj_X1_cover_46 X hK12 h
    · refine zv_iconst X (v := 0) dX1_cover_24 rfl ?_
      refine zv_goto X (tgt := 46) dX1_cover_25 (by decide) ?_
      refine zv_sub (L' := [(0, va_rf (a0)), (1, va_rf (a1)), (2, .int (a2)), (4, .int (a4))]) [0, 1, 2, 4] rfl ?_
      exact kj_X1_cover_46 X hK12 h
theorem kl_X1_cover_12 {p : Program} {l : Launch} {e : Env} {s : State} {m : MethodId} {args : Array Value} {below : List Frame} {meth : Method} {c : Code} {D : zk_G} {g : zk_M} {b0 : Nat} (X : zk_X p s m args meth c D g b0 cX1_cover 5 "LandFolio$Folio" "cover" (some Jvm.ClassFile.FieldType.int)) {post : Int32 → Prop}  {a0 : Option Nat} {a1 : Option Nat} {a2 : Int32} {P : zk_H}   : ∀ (n : Nat) (a3 : Int32) (a4 : Int32), wl_X1_cover_12 post a0 a1 a2 P n a3 a4 → zV p l e ({ frames := 5, cells := 0, slots := 0, locals := 111 } : Room) s m args below meth c D b0 5 (0) (0) (MQ below (va_Qi (fun r u => post r ∧ u = P) (zk_B D b0) (zk_A b0)) args s 0 0 (zk_A b0)) P 12 [(0, va_rf (a0)), (1, va_rf (a1)), (2, .int (a2)), (3, .int (a3)), (4, .int (a4))] [] := by
  intro n
  induction n with
  | zero => intro _ _ h; exact h.elim
  | succ n ih =>
    intro a3 a4 h
    exact kb_X1_cover_12 X  (fun u0 u1 h => ih _ _ h)  h
theorem md_X1_cover : yX1_cover.cls ≠ "java/lang/invoke/MethodHandle" ∧ yX1_cover.cls ≠ "java/lang/invoke/VarHandle" ∧ (parseMethodDescriptor yX1_cover.desc).map (fun d => d.parameters.length) = some 2 := by decide +kernel
theorem wk_X1_cover (l : Launch) {D : zk_G} {g : zk_M} {b0 : Nat} {post : Int32 → Prop} {this : Nat} {x1 : Option Nat} {x2 : Int32} {P : zk_H} (hh : wp_X1_cover post this x1 x2 P) : Met l yX1_cover (ws_ yX1_cover cX1_cover 5 (some Jvm.ClassFile.FieldType.int)) ({ frames := 5, cells := 0, slots := 0, locals := 111 } : Room) (va_Pc [.ref this, va_rf (x1), .int (x2)] (zk_pre D g b0 P)) (va_Qi (fun r u => post r ∧ u = P) (zk_B D b0) (zk_A b0)) 0 0 (zk_A b0) := by
  refine zk_enter "LandFolio$Folio" "cover" rfl rfl (plainFor_of_name (by decide)) [.ref this, va_rf (x1), .int (x2)] (by cases x1 <;> exact Nat.le_of_ble_eq_true rfl) ?_
  intro p e s m args below meth c X
  refine zk_at0 (L' := [(0, va_rf (some this)), (1, va_rf (x1)), (2, .int (x2))]) (by cases x1 <;> rfl) ?_
  have h := hh
  unfold wp_X1_cover at h
  refine zv_iconst X (v := 0) dX1_cover_0 rfl ?_
  refine zv_istore_n X (i := 3) (L' := [(3, .int (0)), (0, va_rf (some this)), (1, va_rf (x1)), (2, .int (x2))]) dX1_cover_1 rfl (by decide) rfl ?_
  refine zv_aload_n X 2 dX1_cover_2 rfl ?_
  refine zv_getf_r X fo_q600 dX1_cover_3 h (fun v3 h => ?_)
  refine zv_iconst X (v := 0) dX1_cover_6 rfl ?_
  refine zv_ciR ((zr_Vl X (As := [.int (0)]) (rest := []) h (fun a h => wk_J16_nextSetBit l h) (zk_l1 ⟨_, rfl, cwV 1 X.hts (lw_V q1530 q1531 q1532 q126 q1533) rfl rfl rfl ⟨rfl, md_J16_nextSetBit⟩ ⟨Nat.le_of_ble_eq_true rfl, Nat.le_of_ble_eq_true rfl⟩⟩) rfl rfl (zk_rs (Nat.le_of_ble_eq_true rfl)) dX1_cover_7 ⟨by first | exact Nat.le_of_ble_eq_true rfl | omega | (dsimp only; omega), by first | exact Nat.le_of_ble_eq_true rfl | omega | (dsimp only; omega)⟩)) (fun v7 h => ?_)
  refine zv_istore X (L' := [(4, .int (v7)), (3, .int (0)), (0, va_rf (some this)), (1, va_rf (x1)), (2, .int (x2))]) dX1_cover_10 (by decide) rfl ?_
  refine zv_sub (L' := [(0, va_rf (some this)), (1, va_rf (x1)), (2, .int (x2)), (3, .int (0)), (4, .int (v7))]) [2, 3, 4, 1, 0] rfl ?_
  obtain ⟨n10, h⟩ := h
  exact kl_X1_cover_12 X  n10 _ _ h
theorem kj_X0_free_93 {p : Program} {l : Launch} {e : Env} {s : State} {m : MethodId} {args : Array Value} {below : List Frame} {meth : Method} {c : Code} {D : zk_G} {g : zk_M} {b0 : Nat} (X : zk_X p s m args meth c D g b0 cX0_free 5 "LandFolio" "free" (some Jvm.ClassFile.FieldType.int)) {post : Int32 → zk_H → Prop}  {a0 : Option Nat} {a1 : Int32} {a2 : Int32} {a3 : Option Nat} {P : zk_H}    (hh : wj_X0_free_93 g post a0 a1 a2 a3 P) : zV p l e ({ frames := 8, cells := 180, slots := 7230, locals := 195 } : Room) s m args below meth c D b0 5 (0) (0) (MQ below (va_Qi post (zk_B D b0) (zk_A b0)) args s 180 7230 (zk_A b0)) P 93 [(0, va_rf (a0)), (1, .int (a1)), (2, .int (a2)), (3, va_rf (a3))] [] := by
  have h := hh
  unfold wj_X0_free_93 at h
  refine zv_aload_n X 0 dX0_free_93 rfl ?_
  refine zv_getf_r X fo_q402 dX0_free_94 h (fun v94 h => ?_)
  refine zv_cq ((zr_Vl X (As := []) (rest := []) h (fun a h => wk_X1_copied l h) (zk_l1 ⟨_, rfl, cwV 0 X.hts (lw_V q465 q466 q467 q103 q468) rfl rfl rfl ⟨rfl, md_X1_copied⟩ ⟨Nat.le_of_ble_eq_true rfl, Nat.le_of_ble_eq_true rfl⟩⟩) rfl rfl (zk_rs (Nat.le_of_ble_eq_true rfl)) dX0_free_97 ⟨by first | exact Nat.le_of_ble_eq_true rfl | omega | (dsimp only; omega), by first | exact Nat.le_of_ble_eq_true rfl | omega | (dsimp only; omega)⟩)) (fun v97 P97 h => ?_)
  refine zv_astore X (L' := [(4, va_rf (v97)), (0, va_rf (a0)), (1, .int (a1)), (2, .int (a2)), (3, va_rf (a3))]) dX0_free_100 (by decide) (by simp [zk_s1, zk_s2, zk_rc, zk_ic, zk_jc]) ?_
  refine zv_aload_n X 4 dX0_free_102 rfl ?_
  refine zv_getf_r X fo_q601 dX0_free_103 h (fun v103 h => ?_)
  refine zv_iload_n X 3 dX0_free_106 rfl ?_
  refine zv_cv ((zr_Vl X (As := [.int (a2)]) (rest := []) h (fun a h => wk_J16_clear l h) (zk_l1 ⟨_, rfl, cwV 1 X.hts (lw_V q1557 q1238 q1239 q126 q1240) rfl rfl rfl ⟨rfl, md_J16_clear⟩ ⟨Nat.le_of_ble_eq_true rfl, Nat.le_of_ble_eq_true rfl⟩⟩) rfl rfl (zk_rs (Nat.le_of_ble_eq_true rfl)) dX0_free_107 ⟨by first | exact Nat.le_of_ble_eq_true rfl | omega | (dsimp only; omega), by first | exact Nat.le_of_ble_eq_true rfl | omega | (dsimp only; omega)⟩)) (fun P107 h => ?_)
  refine zv_aload_n X 1 dX0_free_110 rfl ?_
  refine zv_getf_r X fo_q402 dX0_free_111 h (fun v111 h => ?_)
  refine zv_bipush X (v := 7) dX0_free_114 rfl ?_
  refine zv_iload_n X 2 dX0_free_116 rfl ?_
  refine zv_iload_n X 3 dX0_free_117 rfl ?_
  refine zv_cv ((zr_Vl X (As := [.int (7), .int (a1), .int (a2)]) (rest := []) h (fun a h => wk_X1_logs l h) (zk_l1 ⟨_, rfl, cwV 3 X.hts (lw_V q1318 q1319 q1320 q103 q1321) rfl rfl rfl ⟨rfl, md_X1_logs⟩ ⟨Nat.le_of_ble_eq_true rfl, Nat.le_of_ble_eq_true rfl⟩⟩) rfl rfl (zk_rs (Nat.le_of_ble_eq_true rfl)) dX0_free_118 ⟨by first | exact Nat.le_of_ble_eq_true rfl | omega | (dsimp only; omega), by first | exact Nat.le_of_ble_eq_true rfl | omega | (dsimp only; omega)⟩)) (fun P118 h => ?_)
  refine zv_aload_n X 1 dX0_free_121 rfl ?_
  refine zv_aload X 0 dX0_free_122 rfl ?_
  refine zv_aload_n X 4 dX0_free_124 rfl ?_
  refine zv_getf_r X fo_q601 dX0_free_125 h (fun v125 h => ?_)
  refine zv_ciR ((zr_Vl X (As := []) (rest := [va_rf (v97), va_rf (a0)]) h (fun a h => wk_J16_cardinality l h) (zk_l1 ⟨_, rfl, cwV 0 X.hts (lw_V q1516 q1517 q1518 q126 q1519) rfl rfl rfl ⟨rfl, md_J16_cardinality⟩ ⟨Nat.le_of_ble_eq_true rfl, Nat.le_of_ble_eq_true rfl⟩⟩) rfl rfl (zk_rs (Nat.le_of_ble_eq_true rfl)) dX0_free_128 ⟨by first | exact Nat.le_of_ble_eq_true rfl | omega | (dsimp only; omega), by first | exact Nat.le_of_ble_eq_true rfl | omega | (dsimp only; omega)⟩)) (fun v128 h => ?_)
  refine zv_ci ((zr_Vl X (As := [va_rf (v97), .int (v128)]) (rest := []) h (fun a h => wk_X0_done l h) (zk_l1 ⟨_, rfl, cwV 2 X.hts (lw_V q677 q679 qs7 q102 q680) rfl rfl rfl ⟨rfl, md_X0_done⟩ ⟨Nat.le_of_ble_eq_true rfl, Nat.le_of_ble_eq_true rfl⟩⟩) rfl rfl (zk_rs (Nat.le_of_ble_eq_true rfl)) dX0_free_131 ⟨by first | exact Nat.le_of_ble_eq_true rfl | omega | (dsimp only; omega), by first | exact Nat.le_of_ble_eq_true rfl | omega | (dsimp only; omega)⟩)) (fun v131 P131 h => ?_)
  exact zv_iret X rfl (by first | exact Nat.le_of_ble_eq_true rfl | omega | (dsimp only; omega)) (by first | exact Nat.le_of_ble_eq_true rfl | omega | (dsimp only; omega)) dX0_free_134 h
theorem kj_X0_free_59 {p : Program} {l : Launch} {e : Env} {s : State} {m : MethodId} {args : Array Value} {below : List Frame} {meth : Method} {c : Code} {D : zk_G} {g : zk_M} {b0 : Nat} (X : zk_X p s m args meth c D g b0 cX0_free 5 "LandFolio" "free" (some Jvm.ClassFile.FieldType.int)) {post : Int32 → zk_H → Prop}  {a0 : Option Nat} {a1 : Int32} {a2 : Int32} {a3 : Option Nat} {P : zk_H}    (hh : wj_X0_free_59 g post a0 a1 a2 a3 P) : zV p l e ({ frames := 8, cells := 180, slots := 7230, locals := 195 } : Room) s m args below meth c D b0 5 (0) (0) (MQ below (va_Qi post (zk_B D b0) (zk_A b0)) args s 180 7230 (zk_A b0)) P 59 [(0, va_rf (a0)), (1, .int (a1)), (2, .int (a2)), (3, va_rf (a3))] [] := by
  have h := hh
  unfold wj_X0_free_59 at h
  refine zv_aload_n X 3 dX0_free_59 rfl ?_
  refine zv_inst X zk_cs7 (zk_l1 ⟨_, rfl, X.nc (i := 1) rfl⟩) q1470 dX0_free_60 h (fun v60 h => ?_)
  refine zv_if_eq X (tgt := 93) dX0_free_63 (by decide) h (fun h => ?_) (fun h => ?_)
  · refine zv_widen (c2 := 0) (s2 := 0) (by first | exact Nat.le_of_ble_eq_true rfl | omega | (dsimp only; omega)) (by first | exact Nat.le_of_ble_eq_true rfl | omega | (dsimp only; omega)) ?_
    exact kj_X0_free_93 X  h
  · refine zv_aload_n X 3 dX0_free_66 rfl ?_
    refine zv_cast X zk_cs7 q1470 dX0_free_67 h (fun h => ?_)
    refine zv_astore X (L' := [(4, va_rf (a3)), (0, va_rf (a0)), (1, .int (a1)), (2, .int (a2)), (3, va_rf (a3))]) dX0_free_70 (by decide) (by simp [zk_s1, zk_s2, zk_rc, zk_ic, zk_jc]) ?_
    refine zv_aload_n X 1 dX0_free_72 rfl ?_
    refine zv_getf_r X fo_q402 dX0_free_73 h (fun v73 h => ?_)
    refine zv_aload X 0 dX0_free_76 rfl ?_
    refine zv_iload_n X 3 dX0_free_78 rfl ?_
    refine zv_ciR ((zr_Vl X (As := [va_rf (a3), .int (a2)]) (rest := []) h (fun a h => wk_X1_cover l h) (zk_l1 ⟨_, rfl, cwV 2 X.hts (lw_V q1526 q1527 q1528 q103 q1529) rfl rfl rfl ⟨rfl, md_X1_cover⟩ ⟨Nat.le_of_ble_eq_true rfl, Nat.le_of_ble_eq_true rfl⟩⟩) rfl rfl (zk_rs (Nat.le_of_ble_eq_true rfl)) dX0_free_79 ⟨by first | exact Nat.le_of_ble_eq_true rfl | omega | (dsimp only; omega), by first | exact Nat.le_of_ble_eq_true rfl | omega | (dsimp only; omega)⟩)) (fun v79 h => ?_)
    refine zv_aload X 0 dX0_free_82 rfl ?_
    refine zv_getf_i X fo_q591 dX0_free_84 h (fun v84 h => ?_)
    refine zv_icmp_ge X (tgt := 93) dX0_free_87 (by decide) h (fun h => ?_) (fun h => ?_)
    · refine zv_sub (L' := [(0, va_rf (a0)), (1, .int (a1)), (2, .int (a2)), (3, va_rf (a3))]) [1, 2, 3, 4] rfl ?_
      refine zv_widen (c2 := 0) (s2 := 0) (by first | exact Nat.le_of_ble_eq_true rfl | omega | (dsimp only; omega)) (by first | exact Nat.le_of_ble_eq_true rfl | omega | (dsimp only; omega)) ?_
      exact kj_X0_free_93 X  h
    · refine zv_bipush X (v := -5) dX0_free_90 rfl ?_
      exact zv_iret X rfl (by first | exact Nat.le_of_ble_eq_true rfl | omega | (dsimp only; omega)) (by first | exact Nat.le_of_ble_eq_true rfl | omega | (dsimp only; omega)) dX0_free_92 h
theorem md_X0_free : yX0_free.cls ≠ "java/lang/invoke/MethodHandle" ∧ yX0_free.cls ≠ "java/lang/invoke/VarHandle" ∧ (parseMethodDescriptor yX0_free.desc).map (fun d => d.parameters.length) = some 2 := by decide +kernel
theorem wk_X0_free (l : Launch) {D : zk_G} {g : zk_M} {b0 : Nat} {post : Int32 → zk_H → Prop} {this : Nat} {x1 : Int32} {x2 : Int32} {P : zk_H} (hh : wp_X0_free g post this x1 x2 P) : Met l yX0_free (ws_ yX0_free cX0_free 5 (some Jvm.ClassFile.FieldType.int)) ({ frames := 8, cells := 180, slots := 7230, locals := 195 } : Room) (va_Pc [.ref this, .int (x1), .int (x2)] (zk_pre D g b0 P)) (va_Qi post (zk_B D b0) (zk_A b0)) 180 7230 (zk_A b0) := by
  refine zk_enter "LandFolio" "free" rfl rfl (plainFor_of_name (by decide)) [.ref this, .int (x1), .int (x2)] (Nat.le_of_ble_eq_true rfl) ?_
  intro p e s m args below meth c X
  refine zk_at0 (L' := [(0, va_rf (some this)), (1, .int (x1)), (2, .int (x2))]) (rfl) ?_
  have h := hh
  unfold wp_X0_free at h
  refine zv_aload_n X 0 dX0_free_0 rfl ?_
  refine zv_iload_n X 1 dX0_free_1 rfl ?_
  refine zv_ciR ((zr_Vl X (As := [.int (x1)]) (rest := []) h (fun a h => wk_X0_isBurden l h) (zk_l1 ⟨_, rfl, cwV 1 X.hts (lw_V q1492 q1494 qs35 q102 q1495) rfl rfl rfl ⟨rfl, md_X0_isBurden⟩ ⟨Nat.le_of_ble_eq_true rfl, Nat.le_of_ble_eq_true rfl⟩⟩) rfl rfl (zk_rs (Nat.le_of_ble_eq_true rfl)) dX0_free_2 ⟨by first | exact Nat.le_of_ble_eq_true rfl | omega | (dsimp only; omega), by first | exact Nat.le_of_ble_eq_true rfl | omega | (dsimp only; omega)⟩)) (fun v2 h => ?_)
  refine zv_if_eq X (tgt := 16) dX0_free_5 (by decide) h (fun h => ?_) (fun h => ?_)
  · refine zv_iconst X (v := -1) dX0_free_16 rfl ?_
    exact zv_iret X rfl (by first | exact Nat.le_of_ble_eq_true rfl | omega | (dsimp only; omega)) (by first | exact Nat.le_of_ble_eq_true rfl | omega | (dsimp only; omega)) dX0_free_17 h
  · refine zv_aload_n X 0 dX0_free_8 rfl ?_
    refine zv_iload_n X 2 dX0_free_9 rfl ?_
    refine zv_ciR ((zr_Vl X (As := [.int (x2)]) (rest := []) h (fun a h => wk_X0_isParcel l h) (zk_l1 ⟨_, rfl, cwV 1 X.hts (lw_V q1364 q1366 qs33 q102 q1367) rfl rfl rfl ⟨rfl, md_X0_isParcel⟩ ⟨Nat.le_of_ble_eq_true rfl, Nat.le_of_ble_eq_true rfl⟩⟩) rfl rfl (zk_rs (Nat.le_of_ble_eq_true rfl)) dX0_free_10 ⟨by first | exact Nat.le_of_ble_eq_true rfl | omega | (dsimp only; omega), by first | exact Nat.le_of_ble_eq_true rfl | omega | (dsimp only; omega)⟩)) (fun v10 h => ?_)
    refine zv_if_ne X (tgt := 18) dX0_free_13 (by decide) h (fun h => ?_) (fun h => ?_)
    · refine zv_aload_n X 0 dX0_free_18 rfl ?_
      refine zv_getf_r X fo_q402 dX0_free_19 h (fun v19 h => ?_)
      refine zv_iload_n X 1 dX0_free_22 rfl ?_
      refine zv_cqR ((zr_Vl X (As := [.int (x1)]) (rest := []) h (fun a h => wk_X1_burden l h) (zk_l1 ⟨_, rfl, cwV 1 X.hts (lw_V q1496 q526 q527 q103 q528) rfl rfl rfl ⟨rfl, md_X1_burden⟩ ⟨Nat.le_of_ble_eq_true rfl, Nat.le_of_ble_eq_true rfl⟩⟩) rfl rfl (zk_rs (Nat.le_of_ble_eq_true rfl)) dX0_free_23 ⟨by first | exact Nat.le_of_ble_eq_true rfl | omega | (dsimp only; omega), by first | exact Nat.le_of_ble_eq_true rfl | omega | (dsimp only; omega)⟩)) (fun v23 h => ?_)
      refine zv_astore_n X (i := 3) (L' := [(3, va_rf (v23)), (0, va_rf (some this)), (1, .int (x1)), (2, .int (x2))]) dX0_free_26 rfl (by decide) rfl ?_
      refine zv_aload_n X 0 dX0_free_27 rfl ?_
      refine zv_iload_n X 3 dX0_free_28 rfl ?_
      refine zv_ciR ((zr_Ul X (As := [.int (x2)]) (rest := []) h (fun a h => wk_X7_isOn l h) (zk_l2 ⟨_, rfl, _, va_cwU 1 X.hts (zk_wsU q1515 q1208 q1209 q1207 q127 q1211) rfl rfl rfl rfl md_X7_isOn ⟨Nat.le_of_ble_eq_true rfl, Nat.le_of_ble_eq_true rfl⟩⟩ ⟨_, rfl, _, va_cwU 1 X.hts (zk_wsU q1515 q1208 q1210 q1207 q127 q1211) rfl rfl rfl rfl md_X7_isOn ⟨Nat.le_of_ble_eq_true rfl, Nat.le_of_ble_eq_true rfl⟩⟩) rfl rfl (zk_rs (Nat.le_of_ble_eq_true rfl)) dX0_free_29 ⟨by first | exact Nat.le_of_ble_eq_true rfl | omega | (dsimp only; omega), by first | exact Nat.le_of_ble_eq_true rfl | omega | (dsimp only; omega)⟩)) (fun v29 h => ?_)
      refine zv_if_ne X (tgt := 38) dX0_free_32 (by decide) h (fun h => ?_) (fun h => ?_)
      · refine zv_aload_n X 0 dX0_free_38 rfl ?_
        refine zv_inst X zk_cs7 (zk_l1 ⟨_, rfl, X.nc (i := 1) rfl⟩) q1470 dX0_free_39 h (fun v39 h => ?_)
        refine zv_if_eq X (tgt := 59) dX0_free_42 (by decide) h (fun h => ?_) (fun h => ?_)
        · refine zv_sub (L' := [(0, va_rf (some this)), (1, .int (x1)), (2, .int (x2)), (3, va_rf (v23))]) [1, 2, 3, 0] rfl ?_
          refine zv_widen (c2 := 0) (s2 := 0) (by first | exact Nat.le_of_ble_eq_true rfl | omega | (dsimp only; omega)) (by first | exact Nat.le_of_ble_eq_true rfl | omega | (dsimp only; omega)) ?_
          exact kj_X0_free_59 X  h
        · refine zv_aload_n X 0 dX0_free_45 rfl ?_
          refine zv_getf_r X fo_q601 dX0_free_46 h (fun v46 h => ?_)
          refine zv_ciR ((zr_Vl X (As := []) (rest := []) h (fun a h => wk_J16_cardinality l h) (zk_l1 ⟨_, rfl, cwV 0 X.hts (lw_V q1516 q1517 q1518 q126 q1519) rfl rfl rfl ⟨rfl, md_J16_cardinality⟩ ⟨Nat.le_of_ble_eq_true rfl, Nat.le_of_ble_eq_true rfl⟩⟩) rfl rfl (zk_rs (Nat.le_of_ble_eq_true rfl)) dX0_free_49 ⟨by first | exact Nat.le_of_ble_eq_true rfl | omega | (dsimp only; omega), by first | exact Nat.le_of_ble_eq_true rfl | omega | (dsimp only; omega)⟩)) (fun v49 h => ?_)
          refine zv_iconst X (v := 1) dX0_free_52 rfl ?_
          refine zv_icmp_ne X (tgt := 59) dX0_free_53 (by decide) h (fun h => ?_) (fun h => ?_)
          · refine zv_sub (L' := [(0, va_rf (some this)), (1, .int (x1)), (2, .int (x2)), (3, va_rf (v23))]) [1, 2, 3, 0] rfl ?_
            refine zv_widen (c2 := 0) (s2 := 0) (by first | exact Nat.le_of_ble_eq_true rfl | omega | (dsimp only; omega)) (by first | exact Nat.le_of_ble_eq_true rfl | omega | (dsimp only; omega)) ?_
            exact kj_X0_free_59 X  h
          · refine zv_bipush X (v := -4) dX0_free_56 rfl ?_
            exact zv_iret X rfl (by first | exact Nat.le_of_ble_eq_true rfl | omega | (dsimp only; omega)) (by first | exact Nat.le_of_ble_eq_true rfl | omega | (dsimp only; omega)) dX0_free_58 h
      · refine zv_bipush X (v := -2) dX0_free_35 rfl ?_
        exact zv_iret X rfl (by first | exact Nat.le_of_ble_eq_true rfl | omega | (dsimp only; omega)) (by first | exact Nat.le_of_ble_eq_true rfl | omega | (dsimp only; omega)) dX0_free_37 h
    · refine zv_iconst X (v := -1) dX0_free_16 rfl ?_
      exact zv_iret X rfl (by first | exact Nat.le_of_ble_eq_true rfl | omega | (dsimp only; omega)) (by first | exact Nat.le_of_ble_eq_true rfl | omega | (dsimp only; omega)) dX0_free_17 h
theorem md_X0_cede : yX0_cede.cls ≠ "java/lang/invoke/MethodHandle" ∧ yX0_cede.cls ≠ "java/lang/invoke/VarHandle" ∧ (parseMethodDescriptor yX0_cede.desc).map (fun d => d.parameters.length) = some 2 := by decide +kernel
theorem wk_X0_cede (l : Launch) {D : zk_G} {g : zk_M} {b0 : Nat} {post : Int32 → zk_H → Prop} {this : Nat} {x1 : Int32} {x2 : Int32} {P : zk_H} (hh : wp_X0_cede g post this x1 x2 P) : Met l yX0_cede (ws_ yX0_cede cX0_cede 7 (some Jvm.ClassFile.FieldType.int)) ({ frames := 8, cells := 180, slots := 7230, locals := 195 } : Room) (va_Pc [.ref this, .int (x1), .int (x2)] (zk_pre D g b0 P)) (va_Qi post (zk_B D b0) (zk_A b0)) 180 7230 (zk_A b0) := by
  refine zk_enter "LandFolio" "cede" rfl rfl (plainFor_of_name (by decide)) [.ref this, .int (x1), .int (x2)] (Nat.le_of_ble_eq_true rfl) ?_
  intro p e s m args below meth c X
  refine zk_at0 (L' := [(0, va_rf (some this)), (1, .int (x1)), (2, .int (x2))]) (rfl) ?_
  have h := hh
  unfold wp_X0_cede at h
  refine zv_aload_n X 0 dX0_cede_0 rfl ?_
  refine zv_iload_n X 1 dX0_cede_1 rfl ?_
  refine zv_ciR ((zr_Vl X (As := [.int (x1)]) (rest := []) h (fun a h => wk_X0_isBurden l h) (zk_l1 ⟨_, rfl, cwV 1 X.hts (lw_V q1492 q1494 qs35 q102 q1495) rfl rfl rfl ⟨rfl, md_X0_isBurden⟩ ⟨Nat.le_of_ble_eq_true rfl, Nat.le_of_ble_eq_true rfl⟩⟩) rfl rfl (zk_rs (Nat.le_of_ble_eq_true rfl)) dX0_cede_2 ⟨by first | exact Nat.le_of_ble_eq_true rfl | omega | (dsimp only; omega), by first | exact Nat.le_of_ble_eq_true rfl | omega | (dsimp only; omega)⟩)) (fun v2 h => ?_)
  refine zv_if_eq X (tgt := 21) dX0_cede_5 (by decide) h (fun h => ?_) (fun h => ?_)
  · refine zv_iconst X (v := -1) dX0_cede_21 rfl ?_
    exact zv_iret X rfl (by first | exact Nat.le_of_ble_eq_true rfl | omega | (dsimp only; omega)) (by first | exact Nat.le_of_ble_eq_true rfl | omega | (dsimp only; omega)) dX0_cede_22 h
  · refine zv_aload_n X 0 dX0_cede_8 rfl ?_
    refine zv_iload_n X 2 dX0_cede_9 rfl ?_
    refine zv_ciR ((zr_Vl X (As := [.int (x2)]) (rest := []) h (fun a h => wk_X0_isBurden l h) (zk_l1 ⟨_, rfl, cwV 1 X.hts (lw_V q1492 q1494 qs35 q102 q1495) rfl rfl rfl ⟨rfl, md_X0_isBurden⟩ ⟨Nat.le_of_ble_eq_true rfl, Nat.le_of_ble_eq_true rfl⟩⟩) rfl rfl (zk_rs (Nat.le_of_ble_eq_true rfl)) dX0_cede_10 ⟨by first | exact Nat.le_of_ble_eq_true rfl | omega | (dsimp only; omega), by first | exact Nat.le_of_ble_eq_true rfl | omega | (dsimp only; omega)⟩)) (fun v10 h => ?_)
    refine zv_if_eq X (tgt := 21) dX0_cede_13 (by decide) h (fun h => ?_) (fun h => ?_)
    · refine zv_iconst X (v := -1) dX0_cede_21 rfl ?_
      exact zv_iret X rfl (by first | exact Nat.le_of_ble_eq_true rfl | omega | (dsimp only; omega)) (by first | exact Nat.le_of_ble_eq_true rfl | omega | (dsimp only; omega)) dX0_cede_22 h
    · refine zv_iload_n X 1 dX0_cede_16 rfl ?_
      refine zv_iload_n X 2 dX0_cede_17 rfl ?_
      refine zv_icmp_ne X (tgt := 23) dX0_cede_18 (by decide) h (fun h => ?_) (fun h => ?_)
      · refine zv_aload_n X 0 dX0_cede_23 rfl ?_
        refine zv_getf_r X fo_q402 dX0_cede_24 h (fun v24 h => ?_)
        refine zv_iload_n X 1 dX0_cede_27 rfl ?_
        refine zv_cqR ((zr_Vl X (As := [.int (x1)]) (rest := []) h (fun a h => wk_X1_burden l h) (zk_l1 ⟨_, rfl, cwV 1 X.hts (lw_V q1496 q526 q527 q103 q528) rfl rfl rfl ⟨rfl, md_X1_burden⟩ ⟨Nat.le_of_ble_eq_true rfl, Nat.le_of_ble_eq_true rfl⟩⟩) rfl rfl (zk_rs (Nat.le_of_ble_eq_true rfl)) dX0_cede_28 ⟨by first | exact Nat.le_of_ble_eq_true rfl | omega | (dsimp only; omega), by first | exact Nat.le_of_ble_eq_true rfl | omega | (dsimp only; omega)⟩)) (fun v28 h => ?_)
        refine zv_astore_n X (i := 3) (L' := [(3, va_rf (v28)), (0, va_rf (some this)), (1, .int (x1)), (2, .int (x2))]) dX0_cede_31 rfl (by decide) rfl ?_
        refine zv_aload_n X 1 dX0_cede_32 rfl ?_
        refine zv_getf_r X fo_q402 dX0_cede_33 h (fun v33 h => ?_)
        refine zv_iload_n X 3 dX0_cede_36 rfl ?_
        refine zv_cqR ((zr_Vl X (As := [.int (x2)]) (rest := []) h (fun a h => wk_X1_burden l h) (zk_l1 ⟨_, rfl, cwV 1 X.hts (lw_V q1496 q526 q527 q103 q528) rfl rfl rfl ⟨rfl, md_X1_burden⟩ ⟨Nat.le_of_ble_eq_true rfl, Nat.le_of_ble_eq_true rfl⟩⟩) rfl rfl (zk_rs (Nat.le_of_ble_eq_true rfl)) dX0_cede_37 ⟨by first | exact Nat.le_of_ble_eq_true rfl | omega | (dsimp only; omega), by first | exact Nat.le_of_ble_eq_true rfl | omega | (dsimp only; omega)⟩)) (fun v37 h => ?_)
        refine zv_astore X (L' := [(4, va_rf (v37)), (3, va_rf (v28)), (0, va_rf (some this)), (1, .int (x1)), (2, .int (x2))]) dX0_cede_40 (by decide) (by simp [zk_s1, zk_s2, zk_rc, zk_ic, zk_jc]) ?_
        refine zv_aload_n X 1 dX0_cede_42 rfl ?_
        refine zv_getf_r X fo_q601 dX0_cede_43 h (fun v43 h => ?_)
        refine zv_aload X 0 dX0_cede_46 rfl ?_
        refine zv_getf_r X fo_q601 dX0_cede_48 h (fun v48 h => ?_)
        refine zv_ciR ((zr_Vl X (As := [va_rf (v48)]) (rest := []) h (fun a h => wk_J16_intersects l h) (zk_l1 ⟨_, rfl, cwV 1 X.hts (lw_V q1562 q1563 q1564 q126 q1565) rfl rfl rfl ⟨rfl, md_J16_intersects⟩ ⟨Nat.le_of_ble_eq_true rfl, Nat.le_of_ble_eq_true rfl⟩⟩) rfl rfl (zk_rs (Nat.le_of_ble_eq_true rfl)) dX0_cede_51 ⟨by first | exact Nat.le_of_ble_eq_true rfl | omega | (dsimp only; omega), by first | exact Nat.le_of_ble_eq_true rfl | omega | (dsimp only; omega)⟩)) (fun v51 h => ?_)
        refine zv_if_eq X (tgt := 69) dX0_cede_54 (by decide) h (fun h => ?_) (fun h => ?_)
        · refine zv_bipush X (v := -4) dX0_cede_69 rfl ?_
          exact zv_iret X rfl (by first | exact Nat.le_of_ble_eq_true rfl | omega | (dsimp only; omega)) (by first | exact Nat.le_of_ble_eq_true rfl | omega | (dsimp only; omega)) dX0_cede_71 h
        · refine zv_aload_n X 1 dX0_cede_57 rfl ?_
          refine zv_getf_i X fo_q598 dX0_cede_58 h (fun v58 h => ?_)
          refine zv_aload X 0 dX0_cede_61 rfl ?_
          refine zv_getf_i X fo_q598 dX0_cede_63 h (fun v63 h => ?_)
          refine zv_icmp_le X (tgt := 72) dX0_cede_66 (by decide) h (fun h => ?_) (fun h => ?_)
          · refine zv_aload_n X 2 dX0_cede_72 rfl ?_
            refine zv_getf_r X fo_q402 dX0_cede_73 h (fun v73 h => ?_)
            refine zv_cq ((zr_Vl X (As := []) (rest := []) h (fun a h => wk_X1_copied l h) (zk_l1 ⟨_, rfl, cwV 0 X.hts (lw_V q465 q466 q467 q103 q468) rfl rfl rfl ⟨rfl, md_X1_copied⟩ ⟨Nat.le_of_ble_eq_true rfl, Nat.le_of_ble_eq_true rfl⟩⟩) rfl rfl (zk_rs (Nat.le_of_ble_eq_true rfl)) dX0_cede_76 ⟨by first | exact Nat.le_of_ble_eq_true rfl | omega | (dsimp only; omega), by first | exact Nat.le_of_ble_eq_true rfl | omega | (dsimp only; omega)⟩)) (fun v76 P76 h => ?_)
            refine zv_astore X (L' := [(5, va_rf (v76)), (4, va_rf (v37)), (3, va_rf (v28)), (0, va_rf (some this)), (1, .int (x1)), (2, .int (x2))]) dX0_cede_79 (by decide) (by simp [zk_s1, zk_s2, zk_rc, zk_ic, zk_jc]) ?_
            refine zv_aload_n X 2 dX0_cede_81 rfl ?_
            refine zv_getf_i X fo_q598 dX0_cede_82 h (fun v82 h => ?_)
            refine zv_istore X (L' := [(6, .int (v82)), (5, va_rf (v76)), (4, va_rf (v37)), (3, va_rf (v28)), (0, va_rf (some this)), (1, .int (x1)), (2, .int (x2))]) dX0_cede_85 (by decide) (by simp [zk_s1, zk_s2, zk_rc, zk_ic, zk_jc]) ?_
            refine zv_aload_n X 3 dX0_cede_87 rfl ?_
            refine zv_aload X 2 dX0_cede_88 rfl ?_
            refine zv_getf_i X fo_q598 dX0_cede_90 h (fun v90 h => ?_)
            refine zv_put_i X fp_q598 (fun z => by cases z) dX0_cede_93 h (fun P93 h => ?_)
            refine zv_aload X 2 dX0_cede_96 rfl ?_
            refine zv_iload X 0 dX0_cede_98 rfl ?_
            refine zv_put_i X fp_q598 (fun z => by cases z) dX0_cede_100 h (fun P100 h => ?_)
            refine zv_aload_n X 4 dX0_cede_103 rfl ?_
            refine zv_getf_r X fo_q402 dX0_cede_104 h (fun v104 h => ?_)
            refine zv_bipush X (v := 8) dX0_cede_107 rfl ?_
            refine zv_iload_n X 5 dX0_cede_109 rfl ?_
            refine zv_iload_n X 6 dX0_cede_110 rfl ?_
            refine zv_cv ((zr_Vl X (As := [.int (8), .int (x1), .int (x2)]) (rest := []) h (fun a h => wk_X1_logs l h) (zk_l1 ⟨_, rfl, cwV 3 X.hts (lw_V q1318 q1319 q1320 q103 q1321) rfl rfl rfl ⟨rfl, md_X1_logs⟩ ⟨Nat.le_of_ble_eq_true rfl, Nat.le_of_ble_eq_true rfl⟩⟩) rfl rfl (zk_rs (Nat.le_of_ble_eq_true rfl)) dX0_cede_111 ⟨by first | exact Nat.le_of_ble_eq_true rfl | omega | (dsimp only; omega), by first | exact Nat.le_of_ble_eq_true rfl | omega | (dsimp only; omega)⟩)) (fun P111 h => ?_)
            refine zv_aload_n X 4 dX0_cede_114 rfl ?_
            refine zv_aload X 1 dX0_cede_115 rfl ?_
            refine zv_aload_n X 3 dX0_cede_117 rfl ?_
            refine zv_getf_i X fo_q598 dX0_cede_118 h (fun v118 h => ?_)
            refine zv_ci ((zr_Vl X (As := [va_rf (v76), .int (v118)]) (rest := []) h (fun a h => wk_X0_done l h) (zk_l1 ⟨_, rfl, cwV 2 X.hts (lw_V q677 q679 qs7 q102 q680) rfl rfl rfl ⟨rfl, md_X0_done⟩ ⟨Nat.le_of_ble_eq_true rfl, Nat.le_of_ble_eq_true rfl⟩⟩) rfl rfl (zk_rs (Nat.le_of_ble_eq_true rfl)) dX0_cede_121 ⟨by first | exact Nat.le_of_ble_eq_true rfl | omega | (dsimp only; omega), by first | exact Nat.le_of_ble_eq_true rfl | omega | (dsimp only; omega)⟩)) (fun v121 P121 h => ?_)
            exact zv_iret X rfl (by first | exact Nat.le_of_ble_eq_true rfl | omega | (dsimp only; omega)) (by first | exact Nat.le_of_ble_eq_true rfl | omega | (dsimp only; omega)) dX0_cede_124 h
          · refine zv_bipush X (v := -4) dX0_cede_69 rfl ?_
            exact zv_iret X rfl (by first | exact Nat.le_of_ble_eq_true rfl | omega | (dsimp only; omega)) (by first | exact Nat.le_of_ble_eq_true rfl | omega | (dsimp only; omega)) dX0_cede_71 h
      · refine zv_iconst X (v := -1) dX0_cede_21 rfl ?_
        exact zv_iret X rfl (by first | exact Nat.le_of_ble_eq_true rfl | omega | (dsimp only; omega)) (by first | exact Nat.le_of_ble_eq_true rfl | omega | (dsimp only; omega)) dX0_cede_22 h
theorem kj_X0_barred_52 {p : Program} {l : Launch} {e : Env} {s : State} {m : MethodId} {args : Array Value} {below : List Frame} {meth : Method} {c : Code} {D : zk_G} {g : zk_M} {b0 : Nat} (X : zk_X p s m args meth c D g b0 cX0_barred 3 "LandFolio" "barred" (some Jvm.ClassFile.FieldType.int)) {post : Int32 → Prop} {K4 : Int32 → Int32 → Prop} {a0 : Option Nat} {a2 : Int32} {s0 : Int32} {s1 : Int32} {P : zk_H}  (hK4 : ∀ (u1 : Int32) (u2 : Int32), K4 u1 u2 → zV p l e ({ frames := 4, cells := 0, slots := 0, locals := 85 } : Room) s m args below meth c D b0 3 (0) (0) (MQ below (va_Qi (fun r u => post r ∧ u = P) (zk_B D b0) (zk_A b0)) args s 0 0 (zk_A b0)) P 4 [(0, va_rf (a0)), (1, .int (u1)), (2, .int (u2))] [])  (hh : wj_X0_barred_52 post K4 a0 a2 s0 s1 P) : zV p l e ({ frames := 4, cells := 0, slots := 0, locals := 85 } : Room) s m args below meth c D b0 3 (0) (0) (MQ below (va_Qi (fun r u => post r ∧ u = P) (zk_B D b0) (zk_A b0)) args s 0 0 (zk_A b0)) P 52 [(0, va_rf (a0)), (2, .int (a2))] [.int (s0), .int (s1)] := by
  have h := hh
  unfold wj_X0_barred_52 at h
  refine zv_iadd X dX0_barred_52 ?_
  refine zv_top_i h (fun v53 h => ?_)
  refine zv_istore_n X (i := 1) (L' := [(1, .int (v53)), (0, va_rf (a0)), (2, .int (a2))]) dX0_barred_53 rfl (by decide) (by simp [zk_s1, zk_s2, zk_rc, zk_ic, zk_jc]) ?_
  obtain ⟨v54, e54, h⟩ := zt_e h
  refine zv_iinc X (v := v54) (L' := [(2, .int (v54)), (1, .int (v53)), (0, va_rf (a0))]) 2 dX0_barred_54 rfl e54 (by decide) rfl ?_
  refine zv_goto X (tgt := 4) dX0_barred_57 (by decide) ?_
  refine zv_sub (L' := [(0, va_rf (a0)), (1, .int (v53)), (2, .int (v54))]) [2, 1, 0] rfl ?_
  exact hK4 _ _ h
theorem kj_X0_barred_51 {p : Program} {l : Launch} {e : Env} {s : State} {m : MethodId} {args : Array Value} {below : List Frame} {meth : Method} {c : Code} {D : zk_G} {g : zk_M} {b0 : Nat} (X : zk_X p s m args meth c D g b0 cX0_barred 3 "LandFolio" "barred" (some Jvm.ClassFile.FieldType.int)) {post : Int32 → Prop} {K4 : Int32 → Int32 → Prop} {a0 : Option Nat} {a2 : Int32} {s0 : Int32} {P : zk_H}  (hK4 : ∀ (u1 : Int32) (u2 : Int32), K4 u1 u2 → zV p l e ({ frames := 4, cells := 0, slots := 0, locals := 85 } : Room) s m args below meth c D b0 3 (0) (0) (MQ below (va_Qi (fun r u => post r ∧ u = P) (zk_B D b0) (zk_A b0)) args s 0 0 (zk_A b0)) P 4 [(0, va_rf (a0)), (1, .int (u1)), (2, .int (u2))] [])  (hh : wj_X0_barred_51 post K4 a0 a2 s0 P) : zV p l e ({ frames := 4, cells := 0, slots := 0, locals := 85 } : Room) s m args below meth c D b0 3 (0) (0) (MQ below (va_Qi (fun r u => post r ∧ u = P) (zk_B D b0) (zk_A b0)) args s 0 0 (zk_A b0)) P 51 [(0, va_rf (a0)), (2, .int (a2))] [.int (s0)] := by
  have h := hh
  unfold wj_X0_barred_51 at h
  refine zv_iconst X (v := 0) dX0_barred_51 rfl ?_
  exact kj_X0_barred_52 X hK4 h
theorem kb_X0_barred_4 {p : Program} {l : Launch} {e : Env} {s : State} {m : MethodId} {args : Array Value} {below : List Frame} {meth : Method} {c : Code} {D : zk_G} {g : zk_M} {b0 : Nat} (X : zk_X p s m args meth c D g b0 cX0_barred 3 "LandFolio" "barred" (some Jvm.ClassFile.FieldType.int)) {post : Int32 → Prop}  {K4 : Int32 → Int32 → Prop} {a0 : Option Nat} {a1 : Int32} {a2 : Int32} {P : zk_H}   (hK4 : ∀ (u1 : Int32) (u2 : Int32), K4 u1 u2 → zV p l e ({ frames := 4, cells := 0, slots := 0, locals := 85 } : Room) s m args below meth c D b0 3 (0) (0) (MQ below (va_Qi (fun r u => post r ∧ u = P) (zk_B D b0) (zk_A b0)) args s 0 0 (zk_A b0)) P 4 [(0, va_rf (a0)), (1, .int (u1)), (2, .int (u2))] [])  (hh : wb_X0_barred_4 post a0 P K4 a1 a2) : zV p l e ({ frames := 4, cells := 0, slots := 0, locals := 85 } : Room) s m args below meth c D b0 3 (0) (0) (MQ below (va_Qi (fun r u => post r ∧ u = P) (zk_B D b0) (zk_A b0)) args s 0 0 (zk_A b0)) P 4 [(0, va_rf (a0)), (1, .int (a1)), (2, .int (a2))] [] := by
  have h := hh
  unfold wb_X0_barred_4 at h
  refine zv_iload_n X 2 dX0_barred_4 rfl ?_
  refine zv_aload_n X 0 dX0_barred_5 rfl ?_
  refine zv_getf_r X fo_q402 dX0_barred_6 h (fun v6 h => ?_)
  refine zv_getf_r X fo_q195 dX0_barred_9 h (fun v9 h => ?_)
  refine zv_ciR ((zr_Vl X (As := []) (rest := [.int (a2)]) h (fun a h => wk_J2_size l h) (zk_l1 ⟨_, rfl, cwV 0 X.hts (lw_V q672 q362 q363 q106 q364) rfl rfl rfl ⟨rfl, md_J2_size⟩ ⟨Nat.le_of_ble_eq_true rfl, Nat.le_of_ble_eq_true rfl⟩⟩) rfl rfl (zk_rs (Nat.le_of_ble_eq_true rfl)) dX0_barred_12 ⟨by first | exact Nat.le_of_ble_eq_true rfl | omega | (dsimp only; omega), by first | exact Nat.le_of_ble_eq_true rfl | omega | (dsimp only; omega)⟩)) (fun v12 h => ?_)
  refine zv_icmp_ge X (tgt := 60) dX0_barred_15 (by decide) h (fun h => ?_) (fun h => ?_)
  · refine zv_iload_n X 1 dX0_barred_60 rfl ?_
    exact zv_iret X rfl (by first | exact Nat.le_of_ble_eq_true rfl | omega | (dsimp only; omega)) (by first | exact Nat.le_of_ble_eq_true rfl | omega | (dsimp only; omega)) dX0_barred_61 ⟨h, rfl⟩
  · refine zv_iload_n X 1 dX0_barred_18 rfl ?_
    refine zv_aload_n X 0 dX0_barred_19 rfl ?_
    refine zv_getf_r X fo_q402 dX0_barred_20 h (fun v20 h => ?_)
    refine zv_iload_n X 2 dX0_barred_23 rfl ?_
    refine zv_cqR ((zr_Vl X (As := [.int (a2)]) (rest := [.int (a1)]) h (fun a h => wk_X1_parcel l h) (zk_l1 ⟨_, rfl, cwV 1 X.hts (lw_V q1371 q502 q503 q103 q504) rfl rfl rfl ⟨rfl, md_X1_parcel⟩ ⟨Nat.le_of_ble_eq_true rfl, Nat.le_of_ble_eq_true rfl⟩⟩) rfl rfl (zk_rs (Nat.le_of_ble_eq_true rfl)) dX0_barred_24 ⟨by first | exact Nat.le_of_ble_eq_true rfl | omega | (dsimp only; omega), by first | exact Nat.le_of_ble_eq_true rfl | omega | (dsimp only; omega)⟩)) (fun v24 h => ?_)
    refine zv_ciR ((zr_Vl X (As := []) (rest := [.int (a1)]) h (fun a h => wk_X2_isLive l h) (zk_l1 ⟨_, rfl, cwV 0 X.hts (lw_V q1570 q1177 q1178 q111 q1179) rfl rfl rfl ⟨rfl, md_X2_isLive⟩ ⟨Nat.le_of_ble_eq_true rfl, Nat.le_of_ble_eq_true rfl⟩⟩) rfl rfl (zk_rs (Nat.le_of_ble_eq_true rfl)) dX0_barred_27 ⟨by first | exact Nat.le_of_ble_eq_true rfl | omega | (dsimp only; omega), by first | exact Nat.le_of_ble_eq_true rfl | omega | (dsimp only; omega)⟩)) (fun v27 h => ?_)
    refine zv_if_eq X (tgt := 51) dX0_barred_30 (by decide) h (fun h => ?_) (fun h => ?_)
    · refine zv_sub (L' := [(0, va_rf (a0)), (2, .int (a2))]) [0, 2] rfl ?_
      exact kj_X0_barred_51 X hK4 h
    · refine zv_aload_n X 0 dX0_barred_33 rfl ?_
      refine zv_getf_r X fo_q402 dX0_barred_34 h (fun v34 h => ?_)
      refine zv_iload_n X 2 dX0_barred_37 rfl ?_
      refine zv_cqR ((zr_Vl X (As := [.int (a2)]) (rest := [.int (a1)]) h (fun a h => wk_X1_parcel l h) (zk_l1 ⟨_, rfl, cwV 1 X.hts (lw_V q1371 q502 q503 q103 q504) rfl rfl rfl ⟨rfl, md_X1_parcel⟩ ⟨Nat.le_of_ble_eq_true rfl, Nat.le_of_ble_eq_true rfl⟩⟩) rfl rfl (zk_rs (Nat.le_of_ble_eq_true rfl)) dX0_barred_38 ⟨by first | exact Nat.le_of_ble_eq_true rfl | omega | (dsimp only; omega), by first | exact Nat.le_of_ble_eq_true rfl | omega | (dsimp only; omega)⟩)) (fun v38 h => ?_)
      refine zv_getf_i X fo_q332 dX0_barred_41 h (fun v41 h => ?_)
      refine zv_if_eq X (tgt := 51) dX0_barred_44 (by decide) h (fun h => ?_) (fun h => ?_)
      · refine zv_sub (L' := [(0, va_rf (a0)), (2, .int (a2))]) [0, 2] rfl ?_
        exact kj_X0_barred_51 X hK4 h
      · refine zv_iconst X (v := 1) dX0_barred_47 rfl ?_
        refine zv_goto X (tgt := 52) dX0_barred_48 (by decide) ?_
        refine zv_sub (L' := [(0, va_rf (a0)), (2, .int (a2))]) [0, 2] rfl ?_
        exact kj_X0_barred_52 X hK4 h
theorem kl_X0_barred_4 {p : Program} {l : Launch} {e : Env} {s : State} {m : MethodId} {args : Array Value} {below : List Frame} {meth : Method} {c : Code} {D : zk_G} {g : zk_M} {b0 : Nat} (X : zk_X p s m args meth c D g b0 cX0_barred 3 "LandFolio" "barred" (some Jvm.ClassFile.FieldType.int)) {post : Int32 → Prop}  {a0 : Option Nat} {P : zk_H}   : ∀ (n : Nat) (a1 : Int32) (a2 : Int32), wl_X0_barred_4 post a0 P n a1 a2 → zV p l e ({ frames := 4, cells := 0, slots := 0, locals := 85 } : Room) s m args below meth c D b0 3 (0) (0) (MQ below (va_Qi (fun r u => post r ∧ u = P) (zk_B D b0) (zk_A b0)) args s 0 0 (zk_A b0)) P 4 [(0, va_rf (a0)), (1, .int (a1)), (2, .int (a2))] [] := by
  intro n
  induction n with
  | zero => intro _ _ h; exact h.elim
  | succ n ih =>
    intro a1 a2 h
    exact kb_X0_barred_4 X  (fun u0 u1 h => ih _ _ h)  h
theorem md_X0_barred : yX0_barred.cls ≠ "java/lang/invoke/MethodHandle" ∧ yX0_barred.cls ≠ "java/lang/invoke/VarHandle" ∧ (parseMethodDescriptor yX0_barred.desc).map (fun d => d.parameters.length) = some 0 := by decide +kernel
theorem wk_X0_barred (l : Launch) {D : zk_G} {g : zk_M} {b0 : Nat} {post : Int32 → Prop} {this : Nat} {P : zk_H} (hh : wp_X0_barred post this P) : Met l yX0_barred (ws_ yX0_barred cX0_barred 3 (some Jvm.ClassFile.FieldType.int)) ({ frames := 4, cells := 0, slots := 0, locals := 85 } : Room) (va_Pc [.ref this] (zk_pre D g b0 P)) (va_Qi (fun r u => post r ∧ u = P) (zk_B D b0) (zk_A b0)) 0 0 (zk_A b0) := by
  refine zk_enter "LandFolio" "barred" rfl rfl (plainFor_of_name (by decide)) [.ref this] (Nat.le_of_ble_eq_true rfl) ?_
  intro p e s m args below meth c X
  refine zk_at0 (L' := [(0, va_rf (some this))]) (rfl) ?_
  have h := hh
  unfold wp_X0_barred at h
  refine zv_iconst X (v := 0) dX0_barred_0 rfl ?_
  refine zv_istore_n X (i := 1) (L' := [(1, .int (0)), (0, va_rf (some this))]) dX0_barred_1 rfl (by decide) rfl ?_
  refine zv_iconst X (v := 0) dX0_barred_2 rfl ?_
  refine zv_istore_n X (i := 2) (L' := [(2, .int (0)), (1, .int (0)), (0, va_rf (some this))]) dX0_barred_3 rfl (by decide) rfl ?_
  refine zv_sub (L' := [(0, va_rf (some this)), (1, .int (0)), (2, .int (0))]) [2, 1, 0] rfl ?_
  obtain ⟨n3, h⟩ := h
  exact kl_X0_barred_4 X  n3 _ _ h
theorem kj_X0_bar_76 {p : Program} {l : Launch} {e : Env} {s : State} {m : MethodId} {args : Array Value} {below : List Frame} {meth : Method} {c : Code} {D : zk_G} {g : zk_M} {b0 : Nat} (X : zk_X p s m args meth c D g b0 cX0_bar 5 "LandFolio" "bar" (some Jvm.ClassFile.FieldType.int)) {post : Int32 → zk_H → Prop}  {a0 : Option Nat} {a1 : Int32} {a2 : Int32} {a4 : Option Nat} {s0 : Int32} {s1 : Option Nat} {P : zk_H}    (hh : wj_X0_bar_76 g post a0 a1 a2 a4 s0 s1 P) : zV p l e ({ frames := 8, cells := 180, slots := 7230, locals := 195 } : Room) s m args below meth c D b0 5 (178) (7131) (MQ below (va_Qi post (zk_B D b0) (zk_A b0)) args s 180 7230 (zk_A b0)) P 76 [(0, va_rf (a0)), (1, .int (a1)), (2, .int (a2)), (4, va_rf (a4))] [.int (s0), va_rf (s1)] := by
  have h := hh
  unfold wj_X0_bar_76 at h
  refine zv_put_n X fp_q332 (fun z => by cases z) dX0_bar_76 h (fun P76 h => ?_)
  refine zv_aload_n X 0 dX0_bar_79 rfl ?_
  refine zv_getf_r X fo_q402 dX0_bar_80 h (fun v80 h => ?_)
  refine zv_bipush X (v := 9) dX0_bar_83 rfl ?_
  refine zv_iload_n X 1 dX0_bar_85 rfl ?_
  refine zv_iload_n X 2 dX0_bar_86 rfl ?_
  refine zv_cv ((zr_Vl X (As := [.int (9), .int (a1), .int (a2)]) (rest := []) h (fun a h => wk_X1_logs l h) (zk_l1 ⟨_, rfl, cwV 3 X.hts (lw_V q1318 q1319 q1320 q103 q1321) rfl rfl rfl ⟨rfl, md_X1_logs⟩ ⟨Nat.le_of_ble_eq_true rfl, Nat.le_of_ble_eq_true rfl⟩⟩) rfl rfl (zk_rs (Nat.le_of_ble_eq_true rfl)) dX0_bar_87 ⟨by first | exact Nat.le_of_ble_eq_true rfl | omega | (dsimp only; omega), by first | exact Nat.le_of_ble_eq_true rfl | omega | (dsimp only; omega)⟩)) (fun P87 h => ?_)
  refine zv_aload_n X 0 dX0_bar_90 rfl ?_
  refine zv_aload X 3 dX0_bar_91 rfl ?_
  refine zv_aload_n X 0 dX0_bar_93 rfl ?_
  refine zv_ciR ((zr_Vl X (As := []) (rest := [va_rf (a4), va_rf (a0)]) h (fun a h => wk_X0_barred l h) (zk_l1 ⟨_, rfl, cwV 0 X.hts (lw_V q1571 q1573 qs36 q102 q1574) rfl rfl rfl ⟨rfl, md_X0_barred⟩ ⟨Nat.le_of_ble_eq_true rfl, Nat.le_of_ble_eq_true rfl⟩⟩) rfl rfl (zk_rs (Nat.le_of_ble_eq_true rfl)) dX0_bar_94 ⟨by first | exact Nat.le_of_ble_eq_true rfl | omega | (dsimp only; omega), by first | exact Nat.le_of_ble_eq_true rfl | omega | (dsimp only; omega)⟩)) (fun v94 h => ?_)
  refine zv_ci ((zr_Vl X (As := [va_rf (a4), .int (v94)]) (rest := []) h (fun a h => wk_X0_done l h) (zk_l1 ⟨_, rfl, cwV 2 X.hts (lw_V q677 q679 qs7 q102 q680) rfl rfl rfl ⟨rfl, md_X0_done⟩ ⟨Nat.le_of_ble_eq_true rfl, Nat.le_of_ble_eq_true rfl⟩⟩) rfl rfl (zk_rs (Nat.le_of_ble_eq_true rfl)) dX0_bar_97 ⟨by first | exact Nat.le_of_ble_eq_true rfl | omega | (dsimp only; omega), by first | exact Nat.le_of_ble_eq_true rfl | omega | (dsimp only; omega)⟩)) (fun v97 P97 h => ?_)
  exact zv_iret X rfl (by first | exact Nat.le_of_ble_eq_true rfl | omega | (dsimp only; omega)) (by first | exact Nat.le_of_ble_eq_true rfl | omega | (dsimp only; omega)) dX0_bar_100 h
theorem kj_X0_bar_50 {p : Program} {l : Launch} {e : Env} {s : State} {m : MethodId} {args : Array Value} {below : List Frame} {meth : Method} {c : Code} {D : zk_G} {g : zk_M} {b0 : Nat} (X : zk_X p s m args meth c D g b0 cX0_bar 5 "LandFolio" "bar" (some Jvm.ClassFile.FieldType.int)) {post : Int32 → zk_H → Prop}  {a0 : Option Nat} {a1 : Int32} {a2 : Int32} {a3 : Option Nat} {s0 : Int32} {s1 : Int32} {P : zk_H}    (hh : wj_X0_bar_50 g post a0 a1 a2 a3 s0 s1 P) : zV p l e ({ frames := 8, cells := 180, slots := 7230, locals := 195 } : Room) s m args below meth c D b0 5 (0) (0) (MQ below (va_Qi post (zk_B D b0) (zk_A b0)) args s 180 7230 (zk_A b0)) P 50 [(0, va_rf (a0)), (1, .int (a1)), (2, .int (a2)), (3, va_rf (a3))] [.int (s0), .int (s1)] := by
  have h := hh
  unfold wj_X0_bar_50 at h
  refine zv_icmp_ne X (tgt := 56) dX0_bar_50 (by decide) h (fun h => ?_) (fun h => ?_)
  · refine zv_aload_n X 0 dX0_bar_56 rfl ?_
    refine zv_getf_r X fo_q402 dX0_bar_57 h (fun v57 h => ?_)
    refine zv_cq ((zr_Vl X (As := []) (rest := []) h (fun a h => wk_X1_copied l h) (zk_l1 ⟨_, rfl, cwV 0 X.hts (lw_V q465 q466 q467 q103 q468) rfl rfl rfl ⟨rfl, md_X1_copied⟩ ⟨Nat.le_of_ble_eq_true rfl, Nat.le_of_ble_eq_true rfl⟩⟩) rfl rfl (zk_rs (Nat.le_of_ble_eq_true rfl)) dX0_bar_60 ⟨by first | exact Nat.le_of_ble_eq_true rfl | omega | (dsimp only; omega), by first | exact Nat.le_of_ble_eq_true rfl | omega | (dsimp only; omega)⟩)) (fun v60 P60 h => ?_)
    refine zv_astore X (L' := [(4, va_rf (v60)), (0, va_rf (a0)), (1, .int (a1)), (2, .int (a2)), (3, va_rf (a3))]) dX0_bar_63 (by decide) (by simp [zk_s1, zk_s2, zk_rc, zk_ic, zk_jc]) ?_
    refine zv_aload_n X 4 dX0_bar_65 rfl ?_
    refine zv_iload_n X 3 dX0_bar_66 rfl ?_
    refine zv_iconst X (v := 1) dX0_bar_67 rfl ?_
    refine zv_icmp_ne X (tgt := 75) dX0_bar_68 (by decide) h (fun h => ?_) (fun h => ?_)
    · refine zv_iconst X (v := 0) dX0_bar_75 rfl ?_
      refine zv_sub (L' := [(0, va_rf (a0)), (1, .int (a1)), (2, .int (a2)), (4, va_rf (v60))]) [1, 2, 3, 0] rfl ?_
      refine zv_widen (c2 := 178) (s2 := 7131) (by first | exact Nat.le_of_ble_eq_true rfl | omega | (dsimp only; omega)) (by first | exact Nat.le_of_ble_eq_true rfl | omega | (dsimp only; omega)) ?_
      exact kj_X0_bar_76 X  h
    · refine zv_iconst X (v := 1) dX0_bar_71 rfl ?_
      refine zv_goto X (tgt := 76) dX0_bar_72 (by decide) ?_
      refine zv_sub (L' := [(0, va_rf (a0)), (1, .int (a1)), (2, .int (a2)), (4, va_rf (v60))]) [1, 2, 3, 0] rfl ?_
      refine zv_widen (c2 := 178) (s2 := 7131) (by first | exact Nat.le_of_ble_eq_true rfl | omega | (dsimp only; omega)) (by first | exact Nat.le_of_ble_eq_true rfl | omega | (dsimp only; omega)) ?_
      exact kj_X0_bar_76 X  h
  · refine zv_bipush X (v := -2) dX0_bar_53 rfl ?_
    exact zv_iret X rfl (by first | exact Nat.le_of_ble_eq_true rfl | omega | (dsimp only; omega)) (by first | exact Nat.le_of_ble_eq_true rfl | omega | (dsimp only; omega)) dX0_bar_55 h
theorem md_X0_bar : yX0_bar.cls ≠ "java/lang/invoke/MethodHandle" ∧ yX0_bar.cls ≠ "java/lang/invoke/VarHandle" ∧ (parseMethodDescriptor yX0_bar.desc).map (fun d => d.parameters.length) = some 2 := by decide +kernel
theorem wk_X0_bar (l : Launch) {D : zk_G} {g : zk_M} {b0 : Nat} {post : Int32 → zk_H → Prop} {this : Nat} {x1 : Int32} {x2 : Int32} {P : zk_H} (hh : wp_X0_bar g post this x1 x2 P) : Met l yX0_bar (ws_ yX0_bar cX0_bar 5 (some Jvm.ClassFile.FieldType.int)) ({ frames := 8, cells := 180, slots := 7230, locals := 195 } : Room) (va_Pc [.ref this, .int (x1), .int (x2)] (zk_pre D g b0 P)) (va_Qi post (zk_B D b0) (zk_A b0)) 180 7230 (zk_A b0) := by
  refine zk_enter "LandFolio" "bar" rfl rfl (plainFor_of_name (by decide)) [.ref this, .int (x1), .int (x2)] (Nat.le_of_ble_eq_true rfl) ?_
  intro p e s m args below meth c X
  refine zk_at0 (L' := [(0, va_rf (some this)), (1, .int (x1)), (2, .int (x2))]) (rfl) ?_
  have h := hh
  unfold wp_X0_bar at h
  refine zv_aload_n X 0 dX0_bar_0 rfl ?_
  refine zv_iload_n X 1 dX0_bar_1 rfl ?_
  refine zv_ciR ((zr_Vl X (As := [.int (x1)]) (rest := []) h (fun a h => wk_X0_isParcel l h) (zk_l1 ⟨_, rfl, cwV 1 X.hts (lw_V q1364 q1366 qs33 q102 q1367) rfl rfl rfl ⟨rfl, md_X0_isParcel⟩ ⟨Nat.le_of_ble_eq_true rfl, Nat.le_of_ble_eq_true rfl⟩⟩) rfl rfl (zk_rs (Nat.le_of_ble_eq_true rfl)) dX0_bar_2 ⟨by first | exact Nat.le_of_ble_eq_true rfl | omega | (dsimp only; omega), by first | exact Nat.le_of_ble_eq_true rfl | omega | (dsimp only; omega)⟩)) (fun v2 h => ?_)
  refine zv_if_eq X (tgt := 15) dX0_bar_5 (by decide) h (fun h => ?_) (fun h => ?_)
  · refine zv_iconst X (v := -1) dX0_bar_15 rfl ?_
    exact zv_iret X rfl (by first | exact Nat.le_of_ble_eq_true rfl | omega | (dsimp only; omega)) (by first | exact Nat.le_of_ble_eq_true rfl | omega | (dsimp only; omega)) dX0_bar_16 h
  · refine zv_iload_n X 2 dX0_bar_8 rfl ?_
    refine zv_ciR ((zr_S X (As := [.int (x2)]) (rest := []) (wk_X0_isFlag l h) (va_cwS 1 X.hts (lw_S q1368 q1369 q102 q1370) rfl rfl rfl md_X0_isFlag ⟨Nat.le_of_ble_eq_true rfl, Nat.le_of_ble_eq_true rfl⟩) rfl rfl (zk_rs (Nat.le_of_ble_eq_true rfl)) dX0_bar_9 ⟨by first | exact Nat.le_of_ble_eq_true rfl | omega | (dsimp only; omega), by first | exact Nat.le_of_ble_eq_true rfl | omega | (dsimp only; omega)⟩)) (fun v9 h => ?_)
    refine zv_if_ne X (tgt := 17) dX0_bar_12 (by decide) h (fun h => ?_) (fun h => ?_)
    · refine zv_aload_n X 0 dX0_bar_17 rfl ?_
      refine zv_getf_r X fo_q402 dX0_bar_18 h (fun v18 h => ?_)
      refine zv_iload_n X 1 dX0_bar_21 rfl ?_
      refine zv_cqR ((zr_Vl X (As := [.int (x1)]) (rest := []) h (fun a h => wk_X1_parcel l h) (zk_l1 ⟨_, rfl, cwV 1 X.hts (lw_V q1371 q502 q503 q103 q504) rfl rfl rfl ⟨rfl, md_X1_parcel⟩ ⟨Nat.le_of_ble_eq_true rfl, Nat.le_of_ble_eq_true rfl⟩⟩) rfl rfl (zk_rs (Nat.le_of_ble_eq_true rfl)) dX0_bar_22 ⟨by first | exact Nat.le_of_ble_eq_true rfl | omega | (dsimp only; omega), by first | exact Nat.le_of_ble_eq_true rfl | omega | (dsimp only; omega)⟩)) (fun v22 h => ?_)
      refine zv_astore_n X (i := 3) (L' := [(3, va_rf (v22)), (0, va_rf (some this)), (1, .int (x1)), (2, .int (x2))]) dX0_bar_25 rfl (by decide) rfl ?_
      refine zv_aload_n X 0 dX0_bar_26 rfl ?_
      refine zv_ciR ((zr_Vl X (As := []) (rest := []) h (fun a h => wk_X2_isLive l h) (zk_l1 ⟨_, rfl, cwV 0 X.hts (lw_V q1570 q1177 q1178 q111 q1179) rfl rfl rfl ⟨rfl, md_X2_isLive⟩ ⟨Nat.le_of_ble_eq_true rfl, Nat.le_of_ble_eq_true rfl⟩⟩) rfl rfl (zk_rs (Nat.le_of_ble_eq_true rfl)) dX0_bar_27 ⟨by first | exact Nat.le_of_ble_eq_true rfl | omega | (dsimp only; omega), by first | exact Nat.le_of_ble_eq_true rfl | omega | (dsimp only; omega)⟩)) (fun v27 h => ?_)
      refine zv_if_ne X (tgt := 36) dX0_bar_30 (by decide) h (fun h => ?_) (fun h => ?_)
      · refine zv_aload_n X 0 dX0_bar_36 rfl ?_
        refine zv_getf_i X fo_q332 dX0_bar_37 h (fun v37 h => ?_)
        refine zv_iload_n X 3 dX0_bar_40 rfl ?_
        refine zv_iconst X (v := 1) dX0_bar_41 rfl ?_
        refine zv_icmp_ne X (tgt := 49) dX0_bar_42 (by decide) h (fun h => ?_) (fun h => ?_)
        · refine zv_iconst X (v := 0) dX0_bar_49 rfl ?_
          refine zv_sub (L' := [(0, va_rf (some this)), (1, .int (x1)), (2, .int (x2)), (3, va_rf (v22))]) [1, 2, 3, 0] rfl ?_
          refine zv_widen (c2 := 0) (s2 := 0) (by first | exact Nat.le_of_ble_eq_true rfl | omega | (dsimp only; omega)) (by first | exact Nat.le_of_ble_eq_true rfl | omega | (dsimp only; omega)) ?_
          exact kj_X0_bar_50 X  h
        · refine zv_iconst X (v := 1) dX0_bar_45 rfl ?_
          refine zv_goto X (tgt := 50) dX0_bar_46 (by decide) ?_
          refine zv_sub (L' := [(0, va_rf (some this)), (1, .int (x1)), (2, .int (x2)), (3, va_rf (v22))]) [1, 2, 3, 0] rfl ?_
          refine zv_widen (c2 := 0) (s2 := 0) (by first | exact Nat.le_of_ble_eq_true rfl | omega | (dsimp only; omega)) (by first | exact Nat.le_of_ble_eq_true rfl | omega | (dsimp only; omega)) ?_
          exact kj_X0_bar_50 X  h
      · refine zv_bipush X (v := -4) dX0_bar_33 rfl ?_
        exact zv_iret X rfl (by first | exact Nat.le_of_ble_eq_true rfl | omega | (dsimp only; omega)) (by first | exact Nat.le_of_ble_eq_true rfl | omega | (dsimp only; omega)) dX0_bar_35 h
    · refine zv_iconst X (v := -1) dX0_bar_15 rfl ?_
      exact zv_iret X rfl (by first | exact Nat.le_of_ble_eq_true rfl | omega | (dsimp only; omega)) (by first | exact Nat.le_of_ble_eq_true rfl | omega | (dsimp only; omega)) dX0_bar_16 h
theorem md_X0_days : yX0_days.cls ≠ "java/lang/invoke/MethodHandle" ∧ yX0_days.cls ≠ "java/lang/invoke/VarHandle" ∧ (parseMethodDescriptor yX0_days.desc).map (fun d => d.parameters.length) = some 1 := by decide +kernel
theorem wk_X0_days (l : Launch) {D : zk_G} {g : zk_M} {b0 : Nat} {post : Int32 → zk_H → Prop} {this : Nat} {x1 : Int32} {P : zk_H} (hh : wp_X0_days g post this x1 P) : Met l yX0_days (ws_ yX0_days cX0_days 3 (some Jvm.ClassFile.FieldType.int)) ({ frames := 8, cells := 180, slots := 7230, locals := 195 } : Room) (va_Pc [.ref this, .int (x1)] (zk_pre D g b0 P)) (va_Qi post (zk_B D b0) (zk_A b0)) 180 7230 (zk_A b0) := by
  refine zk_enter "LandFolio" "days" rfl rfl (plainFor_of_name (by decide)) [.ref this, .int (x1)] (Nat.le_of_ble_eq_true rfl) ?_
  intro p e s m args below meth c X
  refine zk_at0 (L' := [(0, va_rf (some this)), (1, .int (x1))]) (rfl) ?_
  have h := hh
  unfold wp_X0_days at h
  refine zv_iload_n X 1 dX0_days_0 rfl ?_
  refine zv_iconst X (v := 1) dX0_days_1 rfl ?_
  refine zv_sipush X (v := 1000) dX0_days_2 rfl ?_
  refine zv_ciR ((zr_S X (As := [.int (x1), .int (1), .int (1000)]) (rest := []) (wk_X0_isIn l h) (va_cwS 3 X.hts (lw_S q462 q463 q102 q464) rfl rfl rfl md_X0_isIn ⟨Nat.le_of_ble_eq_true rfl, Nat.le_of_ble_eq_true rfl⟩) rfl rfl (zk_rs (Nat.le_of_ble_eq_true rfl)) dX0_days_5 ⟨by first | exact Nat.le_of_ble_eq_true rfl | omega | (dsimp only; omega), by first | exact Nat.le_of_ble_eq_true rfl | omega | (dsimp only; omega)⟩)) (fun v5 h => ?_)
  refine zv_if_ne X (tgt := 13) dX0_days_8 (by decide) h (fun h => ?_) (fun h => ?_)
  · refine zv_aload_n X 0 dX0_days_13 rfl ?_
    refine zv_getf_r X fo_q402 dX0_days_14 h (fun v14 h => ?_)
    refine zv_getf_i X fo_q190 dX0_days_17 h (fun v17 h => ?_)
    refine zv_iload_n X 1 dX0_days_20 rfl ?_
    refine zv_iadd X dX0_days_21 ?_
    refine zv_sipush X (v := 9999) dX0_days_22 rfl ?_
    refine zv_icmp_le X (tgt := 31) dX0_days_25 (by decide) h (fun h => ?_) (fun h => ?_)
    · refine zv_aload_n X 0 dX0_days_31 rfl ?_
      refine zv_getf_r X fo_q402 dX0_days_32 h (fun v32 h => ?_)
      refine zv_cq ((zr_Vl X (As := []) (rest := []) h (fun a h => wk_X1_copied l h) (zk_l1 ⟨_, rfl, cwV 0 X.hts (lw_V q465 q466 q467 q103 q468) rfl rfl rfl ⟨rfl, md_X1_copied⟩ ⟨Nat.le_of_ble_eq_true rfl, Nat.le_of_ble_eq_true rfl⟩⟩) rfl rfl (zk_rs (Nat.le_of_ble_eq_true rfl)) dX0_days_35 ⟨by first | exact Nat.le_of_ble_eq_true rfl | omega | (dsimp only; omega), by first | exact Nat.le_of_ble_eq_true rfl | omega | (dsimp only; omega)⟩)) (fun v35 P35 h => ?_)
      refine zv_astore_n X (i := 2) (L' := [(2, va_rf (v35)), (0, va_rf (some this)), (1, .int (x1))]) dX0_days_38 rfl (by decide) rfl ?_
      refine zv_aload_n X 1 dX0_days_39 rfl ?_
      refine zv_getf_r X fo_q402 dX0_days_40 h (fun v40 h => ?_)
      refine zv_dup X dX0_days_43 (zk_rc _) ?_
      refine zv_getf_i X fo_q190 dX0_days_44 h (fun v44 h => ?_)
      refine zv_iload_n X 2 dX0_days_47 rfl ?_
      refine zv_iadd X dX0_days_48 ?_
      refine zv_put_i X fp_q190 (fun z => by cases z) dX0_days_49 h (fun P49 h => ?_)
      refine zv_aload_n X 1 dX0_days_52 rfl ?_
      refine zv_getf_r X fo_q402 dX0_days_53 h (fun v53 h => ?_)
      refine zv_bipush X (v := 10) dX0_days_56 rfl ?_
      refine zv_iload_n X 2 dX0_days_58 rfl ?_
      refine zv_aload_n X 1 dX0_days_59 rfl ?_
      refine zv_getf_r X fo_q402 dX0_days_60 h (fun v60 h => ?_)
      refine zv_getf_i X fo_q190 dX0_days_63 h (fun v63 h => ?_)
      refine zv_cv ((zr_Vl X (As := [.int (10), .int (x1), .int (v63)]) (rest := []) h (fun a h => wk_X1_logs l h) (zk_l1 ⟨_, rfl, cwV 3 X.hts (lw_V q1318 q1319 q1320 q103 q1321) rfl rfl rfl ⟨rfl, md_X1_logs⟩ ⟨Nat.le_of_ble_eq_true rfl, Nat.le_of_ble_eq_true rfl⟩⟩) rfl rfl (zk_rs (Nat.le_of_ble_eq_true rfl)) dX0_days_66 ⟨by first | exact Nat.le_of_ble_eq_true rfl | omega | (dsimp only; omega), by first | exact Nat.le_of_ble_eq_true rfl | omega | (dsimp only; omega)⟩)) (fun P66 h => ?_)
      refine zv_aload_n X 1 dX0_days_69 rfl ?_
      refine zv_aload_n X 0 dX0_days_70 rfl ?_
      refine zv_aload_n X 1 dX0_days_71 rfl ?_
      refine zv_getf_r X fo_q402 dX0_days_72 h (fun v72 h => ?_)
      refine zv_getf_i X fo_q190 dX0_days_75 h (fun v75 h => ?_)
      refine zv_ci ((zr_Vl X (As := [va_rf (v35), .int (v75)]) (rest := []) h (fun a h => wk_X0_done l h) (zk_l1 ⟨_, rfl, cwV 2 X.hts (lw_V q677 q679 qs7 q102 q680) rfl rfl rfl ⟨rfl, md_X0_done⟩ ⟨Nat.le_of_ble_eq_true rfl, Nat.le_of_ble_eq_true rfl⟩⟩) rfl rfl (zk_rs (Nat.le_of_ble_eq_true rfl)) dX0_days_78 ⟨by first | exact Nat.le_of_ble_eq_true rfl | omega | (dsimp only; omega), by first | exact Nat.le_of_ble_eq_true rfl | omega | (dsimp only; omega)⟩)) (fun v78 P78 h => ?_)
      exact zv_iret X rfl (by first | exact Nat.le_of_ble_eq_true rfl | omega | (dsimp only; omega)) (by first | exact Nat.le_of_ble_eq_true rfl | omega | (dsimp only; omega)) dX0_days_81 h
    · refine zv_bipush X (v := -3) dX0_days_28 rfl ?_
      exact zv_iret X rfl (by first | exact Nat.le_of_ble_eq_true rfl | omega | (dsimp only; omega)) (by first | exact Nat.le_of_ble_eq_true rfl | omega | (dsimp only; omega)) dX0_days_30 h
  · refine zv_iconst X (v := -1) dX0_days_11 rfl ?_
    exact zv_iret X rfl (by first | exact Nat.le_of_ble_eq_true rfl | omega | (dsimp only; omega)) (by first | exact Nat.le_of_ble_eq_true rfl | omega | (dsimp only; omega)) dX0_days_12 h
theorem md_X0_price : yX0_price.cls ≠ "java/lang/invoke/MethodHandle" ∧ yX0_price.cls ≠ "java/lang/invoke/VarHandle" ∧ (parseMethodDescriptor yX0_price.desc).map (fun d => d.parameters.length) = some 1 := by decide +kernel
theorem wk_X0_price (l : Launch) {D : zk_G} {g : zk_M} {b0 : Nat} {post : Int32 → zk_H → Prop} {this : Nat} {x1 : Int32} {P : zk_H} (hh : wp_X0_price g post this x1 P) : Met l yX0_price (ws_ yX0_price cX0_price 4 (some Jvm.ClassFile.FieldType.int)) ({ frames := 8, cells := 180, slots := 7230, locals := 195 } : Room) (va_Pc [.ref this, .int (x1)] (zk_pre D g b0 P)) (va_Qi post (zk_B D b0) (zk_A b0)) 180 7230 (zk_A b0) := by
  refine zk_enter "LandFolio" "price" rfl rfl (plainFor_of_name (by decide)) [.ref this, .int (x1)] (Nat.le_of_ble_eq_true rfl) ?_
  intro p e s m args below meth c X
  refine zk_at0 (L' := [(0, va_rf (some this)), (1, .int (x1))]) (rfl) ?_
  have h := hh
  unfold wp_X0_price at h
  refine zv_iload_n X 1 dX0_price_0 rfl ?_
  refine zv_iconst X (v := 1) dX0_price_1 rfl ?_
  refine zv_bipush X (v := 99) dX0_price_2 rfl ?_
  refine zv_ciR ((zr_S X (As := [.int (x1), .int (1), .int (99)]) (rest := []) (wk_X0_isIn l h) (va_cwS 3 X.hts (lw_S q462 q463 q102 q464) rfl rfl rfl md_X0_isIn ⟨Nat.le_of_ble_eq_true rfl, Nat.le_of_ble_eq_true rfl⟩) rfl rfl (zk_rs (Nat.le_of_ble_eq_true rfl)) dX0_price_4 ⟨by first | exact Nat.le_of_ble_eq_true rfl | omega | (dsimp only; omega), by first | exact Nat.le_of_ble_eq_true rfl | omega | (dsimp only; omega)⟩)) (fun v4 h => ?_)
  refine zv_if_ne X (tgt := 12) dX0_price_7 (by decide) h (fun h => ?_) (fun h => ?_)
  · refine zv_aload_n X 0 dX0_price_12 rfl ?_
    refine zv_getf_r X fo_q402 dX0_price_13 h (fun v13 h => ?_)
    refine zv_getf_i X fo_q188 dX0_price_16 h (fun v16 h => ?_)
    refine zv_istore_n X (i := 2) (L' := [(2, .int (v16)), (0, va_rf (some this)), (1, .int (x1))]) dX0_price_19 rfl (by decide) rfl ?_
    refine zv_iload_n X 0 dX0_price_20 rfl ?_
    refine zv_iload_n X 2 dX0_price_21 rfl ?_
    refine zv_icmp_ne X (tgt := 28) dX0_price_22 (by decide) h (fun h => ?_) (fun h => ?_)
    · refine zv_aload_n X 1 dX0_price_28 rfl ?_
      refine zv_getf_r X fo_q402 dX0_price_29 h (fun v29 h => ?_)
      refine zv_cq ((zr_Vl X (As := []) (rest := []) h (fun a h => wk_X1_copied l h) (zk_l1 ⟨_, rfl, cwV 0 X.hts (lw_V q465 q466 q467 q103 q468) rfl rfl rfl ⟨rfl, md_X1_copied⟩ ⟨Nat.le_of_ble_eq_true rfl, Nat.le_of_ble_eq_true rfl⟩⟩) rfl rfl (zk_rs (Nat.le_of_ble_eq_true rfl)) dX0_price_32 ⟨by first | exact Nat.le_of_ble_eq_true rfl | omega | (dsimp only; omega), by first | exact Nat.le_of_ble_eq_true rfl | omega | (dsimp only; omega)⟩)) (fun v32 P32 h => ?_)
      refine zv_astore_n X (i := 3) (L' := [(3, va_rf (v32)), (2, .int (v16)), (0, va_rf (some this)), (1, .int (x1))]) dX0_price_35 rfl (by decide) rfl ?_
      refine zv_aload_n X 2 dX0_price_36 rfl ?_
      refine zv_getf_r X fo_q402 dX0_price_37 h (fun v37 h => ?_)
      refine zv_iload_n X 3 dX0_price_40 rfl ?_
      refine zv_put_i X fp_q188 (fun z => by cases z) dX0_price_41 h (fun P41 h => ?_)
      refine zv_aload_n X 2 dX0_price_44 rfl ?_
      refine zv_getf_r X fo_q402 dX0_price_45 h (fun v45 h => ?_)
      refine zv_bipush X (v := 11) dX0_price_48 rfl ?_
      refine zv_iload_n X 3 dX0_price_50 rfl ?_
      refine zv_iload_n X 1 dX0_price_51 rfl ?_
      refine zv_cv ((zr_Vl X (As := [.int (11), .int (x1), .int (v16)]) (rest := []) h (fun a h => wk_X1_logs l h) (zk_l1 ⟨_, rfl, cwV 3 X.hts (lw_V q1318 q1319 q1320 q103 q1321) rfl rfl rfl ⟨rfl, md_X1_logs⟩ ⟨Nat.le_of_ble_eq_true rfl, Nat.le_of_ble_eq_true rfl⟩⟩) rfl rfl (zk_rs (Nat.le_of_ble_eq_true rfl)) dX0_price_52 ⟨by first | exact Nat.le_of_ble_eq_true rfl | omega | (dsimp only; omega), by first | exact Nat.le_of_ble_eq_true rfl | omega | (dsimp only; omega)⟩)) (fun P52 h => ?_)
      refine zv_aload_n X 2 dX0_price_55 rfl ?_
      refine zv_aload_n X 0 dX0_price_56 rfl ?_
      refine zv_iload_n X 1 dX0_price_57 rfl ?_
      refine zv_ci ((zr_Vl X (As := [va_rf (v32), .int (v16)]) (rest := []) h (fun a h => wk_X0_done l h) (zk_l1 ⟨_, rfl, cwV 2 X.hts (lw_V q677 q679 qs7 q102 q680) rfl rfl rfl ⟨rfl, md_X0_done⟩ ⟨Nat.le_of_ble_eq_true rfl, Nat.le_of_ble_eq_true rfl⟩⟩) rfl rfl (zk_rs (Nat.le_of_ble_eq_true rfl)) dX0_price_58 ⟨by first | exact Nat.le_of_ble_eq_true rfl | omega | (dsimp only; omega), by first | exact Nat.le_of_ble_eq_true rfl | omega | (dsimp only; omega)⟩)) (fun v58 P58 h => ?_)
      exact zv_iret X rfl (by first | exact Nat.le_of_ble_eq_true rfl | omega | (dsimp only; omega)) (by first | exact Nat.le_of_ble_eq_true rfl | omega | (dsimp only; omega)) dX0_price_61 h
    · refine zv_bipush X (v := -2) dX0_price_25 rfl ?_
      exact zv_iret X rfl (by first | exact Nat.le_of_ble_eq_true rfl | omega | (dsimp only; omega)) (by first | exact Nat.le_of_ble_eq_true rfl | omega | (dsimp only; omega)) dX0_price_27 h
  · refine zv_iconst X (v := -1) dX0_price_10 rfl ?_
    exact zv_iret X rfl (by first | exact Nat.le_of_ble_eq_true rfl | omega | (dsimp only; omega)) (by first | exact Nat.le_of_ble_eq_true rfl | omega | (dsimp only; omega)) dX0_price_11 h
theorem md_X2_common : yX2_common.cls ≠ "java/lang/invoke/MethodHandle" ∧ yX2_common.cls ≠ "java/lang/invoke/VarHandle" ∧ (parseMethodDescriptor yX2_common.desc).map (fun d => d.parameters.length) = some 4 := by decide +kernel
theorem wk_X2_common (l : Launch) {D : zk_G} {g : zk_M} {b0 : Nat} {post : Int32 → Prop} {x0 : Int32} {x1 : Int32} {x2 : Int32} {x3 : Int32} {P : zk_H} (hh : wp_X2_common post x0 x1 x2 x3) : Met l yX2_common (ws_ yX2_common cX2_common 4 (some Jvm.ClassFile.FieldType.int)) ({ frames := 1, cells := 0, slots := 0, locals := 21 } : Room) (va_Pc [.int (x0), .int (x1), .int (x2), .int (x3)] (zk_pre D g b0 P)) (va_Qi (fun r u => post r ∧ u = P) (zk_B D b0) (zk_A b0)) 0 0 (zk_A b0) := by
  refine zk_enter "LandFolio$Parcel" "common" rfl rfl (plainFor_of_name (by decide)) [.int (x0), .int (x1), .int (x2), .int (x3)] (Nat.le_of_ble_eq_true rfl) ?_
  intro p e s m args below meth c X
  refine zk_at0 (L' := [(0, .int (x0)), (1, .int (x1)), (2, .int (x2)), (3, .int (x3))]) (rfl) ?_
  have h := hh
  unfold wp_X2_common at h
  refine zv_iload_n X 0 dX2_common_0 rfl ?_
  refine zv_iload_n X 1 dX2_common_1 rfl ?_
  refine zv_iadd X dX2_common_2 ?_
  refine zv_iload_n X 2 dX2_common_3 rfl ?_
  refine zv_iload_n X 3 dX2_common_4 rfl ?_
  refine zv_iadd X dX2_common_5 ?_
  refine zv_mmin X q1429 ⟨by first | decide | (dsimp only; decide), by first | decide | (dsimp only; decide)⟩ (zk_rs (Nat.le_of_ble_eq_true rfl)) (by first | exact Nat.le_of_ble_eq_true rfl | dsimp only; omega) (by first | exact Nat.le_of_ble_eq_true rfl | dsimp only; omega) dX2_common_6 ?_
  refine zv_iload_n X 0 dX2_common_9 rfl ?_
  refine zv_iload_n X 2 dX2_common_10 rfl ?_
  refine zv_mmax X q1430 ⟨by first | decide | (dsimp only; decide), by first | decide | (dsimp only; decide)⟩ (zk_rs (Nat.le_of_ble_eq_true rfl)) (by first | exact Nat.le_of_ble_eq_true rfl | dsimp only; omega) (by first | exact Nat.le_of_ble_eq_true rfl | dsimp only; omega) dX2_common_11 ?_
  refine zv_isub X dX2_common_14 ?_
  exact zv_iret X rfl (by first | exact Nat.le_of_ble_eq_true rfl | omega | (dsimp only; omega)) (by first | exact Nat.le_of_ble_eq_true rfl | omega | (dsimp only; omega)) dX2_common_15 ⟨h, rfl⟩
theorem kj_X2_edge_52 {p : Program} {l : Launch} {e : Env} {s : State} {m : MethodId} {args : Array Value} {below : List Frame} {meth : Method} {c : Code} {D : zk_G} {g : zk_M} {b0 : Nat} (X : zk_X p s m args meth c D g b0 cX2_edge 4 "LandFolio$Parcel" "edge" (some Jvm.ClassFile.FieldType.int)) {post : Int32 → Prop}  {a2 : Int32} {a3 : Int32} {P : zk_H}    (hh : wj_X2_edge_52 post a2 a3 P) : zV p l e ({ frames := 2, cells := 0, slots := 0, locals := 44 } : Room) s m args below meth c D b0 4 (0) (0) (MQ below (va_Qi (fun r u => post r ∧ u = P) (zk_B D b0) (zk_A b0)) args s 0 0 (zk_A b0)) P 52 [(2, .int (a2)), (3, .int (a3))] [] := by
  have h := hh
  unfold wj_X2_edge_52 at h
  refine zv_iload_n X 1 dX2_edge_52 rfl ?_
  refine zv_if_ne X (tgt := 64) dX2_edge_53 (by decide) h (fun h => ?_) (fun h => ?_)
  · refine zv_iconst X (v := 0) dX2_edge_64 rfl ?_
    exact zv_iret X rfl (by first | exact Nat.le_of_ble_eq_true rfl | omega | (dsimp only; omega)) (by first | exact Nat.le_of_ble_eq_true rfl | omega | (dsimp only; omega)) dX2_edge_65 ⟨h, rfl⟩
  · refine zv_iload_n X 0 dX2_edge_56 rfl ?_
    refine zv_if_le X (tgt := 64) dX2_edge_57 (by decide) h (fun h => ?_) (fun h => ?_)
    · refine zv_iconst X (v := 0) dX2_edge_64 rfl ?_
      exact zv_iret X rfl (by first | exact Nat.le_of_ble_eq_true rfl | omega | (dsimp only; omega)) (by first | exact Nat.le_of_ble_eq_true rfl | omega | (dsimp only; omega)) dX2_edge_65 ⟨h, rfl⟩
    · refine zv_iload_n X 0 dX2_edge_60 rfl ?_
      refine zv_goto X (tgt := 65) dX2_edge_61 (by decide) ?_
      exact zv_iret X rfl (by first | exact Nat.le_of_ble_eq_true rfl | omega | (dsimp only; omega)) (by first | exact Nat.le_of_ble_eq_true rfl | omega | (dsimp only; omega)) dX2_edge_65 ⟨h, rfl⟩
theorem md_X2_edge : yX2_edge.cls ≠ "java/lang/invoke/MethodHandle" ∧ yX2_edge.cls ≠ "java/lang/invoke/VarHandle" ∧ (parseMethodDescriptor yX2_edge.desc).map (fun d => d.parameters.length) = some 1 := by decide +kernel
theorem wk_X2_edge (l : Launch) {D : zk_G} {g : zk_M} {b0 : Nat} {post : Int32 → Prop} {this : Nat} {x1 : Option Nat} {P : zk_H} (hh : wp_X2_edge post this x1 P) : Met l yX2_edge (ws_ yX2_edge cX2_edge 4 (some Jvm.ClassFile.FieldType.int)) ({ frames := 2, cells := 0, slots := 0, locals := 44 } : Room) (va_Pc [.ref this, va_rf (x1)] (zk_pre D g b0 P)) (va_Qi (fun r u => post r ∧ u = P) (zk_B D b0) (zk_A b0)) 0 0 (zk_A b0) := by
  refine zk_enter "LandFolio$Parcel" "edge" rfl rfl (plainFor_of_name (by decide)) [.ref this, va_rf (x1)] (by cases x1 <;> exact Nat.le_of_ble_eq_true rfl) ?_
  intro p e s m args below meth c X
  refine zk_at0 (L' := [(0, va_rf (some this)), (1, va_rf (x1))]) (by cases x1 <;> rfl) ?_
  have h := hh
  unfold wp_X2_edge at h
  refine zv_aload_n X 0 dX2_edge_0 rfl ?_
  refine zv_getf_i X fo_q306 dX2_edge_1 h (fun v1 h => ?_)
  refine zv_aload_n X 0 dX2_edge_4 rfl ?_
  refine zv_getf_i X fo_q313 dX2_edge_5 h (fun v5 h => ?_)
  refine zv_aload_n X 1 dX2_edge_8 rfl ?_
  refine zv_getf_i X fo_q306 dX2_edge_9 h (fun v9 h => ?_)
  refine zv_aload_n X 1 dX2_edge_12 rfl ?_
  refine zv_getf_i X fo_q313 dX2_edge_13 h (fun v13 h => ?_)
  refine zv_ciR ((zr_S X (As := [.int (v1), .int (v5), .int (v9), .int (v13)]) (rest := []) (wk_X2_common l h) (va_cwS 4 X.hts (lw_S q1426 q1427 q111 q1428) rfl rfl rfl md_X2_common ⟨Nat.le_of_ble_eq_true rfl, Nat.le_of_ble_eq_true rfl⟩) rfl rfl (zk_rs (Nat.le_of_ble_eq_true rfl)) dX2_edge_16 ⟨by first | exact Nat.le_of_ble_eq_true rfl | omega | (dsimp only; omega), by first | exact Nat.le_of_ble_eq_true rfl | omega | (dsimp only; omega)⟩)) (fun v16 h => ?_)
  refine zv_istore_n X (i := 2) (L' := [(2, .int (v16)), (0, va_rf (some this)), (1, va_rf (x1))]) dX2_edge_19 rfl (by decide) (by simp [zk_s1, zk_s2, zk_rc, zk_ic, zk_jc]) ?_
  refine zv_aload_n X 1 dX2_edge_20 rfl ?_
  refine zv_getf_i X fo_q310 dX2_edge_21 h (fun v21 h => ?_)
  refine zv_aload_n X 1 dX2_edge_24 rfl ?_
  refine zv_getf_i X fo_q317 dX2_edge_25 h (fun v25 h => ?_)
  refine zv_aload_n X 2 dX2_edge_28 rfl ?_
  refine zv_getf_i X fo_q310 dX2_edge_29 h (fun v29 h => ?_)
  refine zv_aload_n X 2 dX2_edge_32 rfl ?_
  refine zv_getf_i X fo_q317 dX2_edge_33 h (fun v33 h => ?_)
  refine zv_ciR ((zr_S X (As := [.int (v21), .int (v25), .int (v29), .int (v33)]) (rest := []) (wk_X2_common l h) (va_cwS 4 X.hts (lw_S q1426 q1427 q111 q1428) rfl rfl rfl md_X2_common ⟨Nat.le_of_ble_eq_true rfl, Nat.le_of_ble_eq_true rfl⟩) rfl rfl (zk_rs (Nat.le_of_ble_eq_true rfl)) dX2_edge_36 ⟨by first | exact Nat.le_of_ble_eq_true rfl | omega | (dsimp only; omega), by first | exact Nat.le_of_ble_eq_true rfl | omega | (dsimp only; omega)⟩)) (fun v36 h => ?_)
  refine zv_istore_n X (i := 3) (L' := [(3, .int (v36)), (2, .int (v16)), (0, va_rf (some this)), (1, va_rf (x1))]) dX2_edge_39 rfl (by decide) rfl ?_
  refine zv_iload_n X 1 dX2_edge_40 rfl ?_
  refine zv_if_ne X (tgt := 52) dX2_edge_41 (by decide) h (fun h => ?_) (fun h => ?_)
  · refine zv_sub (L' := [(2, .int (v16)), (3, .int (v36))]) [1, 0] rfl ?_
    exact kj_X2_edge_52 X  h
  · refine zv_iload_n X 0 dX2_edge_44 rfl ?_
    refine zv_if_le X (tgt := 52) dX2_edge_45 (by decide) h (fun h => ?_) (fun h => ?_)
    · refine zv_sub (L' := [(2, .int (v16)), (3, .int (v36))]) [1, 0] rfl ?_
      exact kj_X2_edge_52 X  h
    · refine zv_iload_n X 0 dX2_edge_48 rfl ?_
      refine zv_goto X (tgt := 65) dX2_edge_49 (by decide) ?_
      exact zv_iret X rfl (by first | exact Nat.le_of_ble_eq_true rfl | omega | (dsimp only; omega)) (by first | exact Nat.le_of_ble_eq_true rfl | omega | (dsimp only; omega)) dX2_edge_65 ⟨h, rfl⟩
theorem md_X0_areNeighbours : yX0_areNeighbours.cls ≠ "java/lang/invoke/MethodHandle" ∧ yX0_areNeighbours.cls ≠ "java/lang/invoke/VarHandle" ∧ (parseMethodDescriptor yX0_areNeighbours.desc).map (fun d => d.parameters.length) = some 2 := by decide +kernel
theorem wk_X0_areNeighbours (l : Launch) {D : zk_G} {g : zk_M} {b0 : Nat} {post : Int32 → Prop} {this : Nat} {x1 : Int32} {x2 : Int32} {P : zk_H} (hh : wp_X0_areNeighbours post this x1 x2 P) : Met l yX0_areNeighbours (ws_ yX0_areNeighbours cX0_areNeighbours 3 (some Jvm.ClassFile.FieldType.boolean)) ({ frames := 4, cells := 0, slots := 0, locals := 85 } : Room) (va_Pc [.ref this, .int (x1), .int (x2)] (zk_pre D g b0 P)) (va_Qi (fun r u => post r ∧ u = P) (zk_B D b0) (zk_A b0)) 0 0 (zk_A b0) := by
  refine zk_enter "LandFolio" "areNeighbours" rfl rfl (plainFor_of_name (by decide)) [.ref this, .int (x1), .int (x2)] (Nat.le_of_ble_eq_true rfl) ?_
  intro p e s m args below meth c X
  refine zk_at0 (L' := [(0, va_rf (some this)), (1, .int (x1)), (2, .int (x2))]) (rfl) ?_
  have h := hh
  unfold wp_X0_areNeighbours at h
  refine zv_iload_n X 1 dX0_areNeighbours_0 rfl ?_
  refine zv_iload_n X 2 dX0_areNeighbours_1 rfl ?_
  refine zv_icmp_eq X (tgt := 45) dX0_areNeighbours_2 (by decide) h (fun h => ?_) (fun h => ?_)
  · refine zv_iconst X (v := 0) dX0_areNeighbours_45 rfl ?_
    exact zv_zret X (ty := .boolean) rfl (by first | exact Nat.le_of_ble_eq_true rfl | omega | (dsimp only; omega)) (by first | exact Nat.le_of_ble_eq_true rfl | omega | (dsimp only; omega)) dX0_areNeighbours_46 ⟨rfl, ⟨h, rfl⟩⟩
  · refine zv_aload_n X 0 dX0_areNeighbours_5 rfl ?_
    refine zv_getf_r X fo_q402 dX0_areNeighbours_6 h (fun v6 h => ?_)
    refine zv_iload_n X 2 dX0_areNeighbours_9 rfl ?_
    refine zv_cqR ((zr_Vl X (As := [.int (x2)]) (rest := []) h (fun a h => wk_X1_parcel l h) (zk_l1 ⟨_, rfl, cwV 1 X.hts (lw_V q1371 q502 q503 q103 q504) rfl rfl rfl ⟨rfl, md_X1_parcel⟩ ⟨Nat.le_of_ble_eq_true rfl, Nat.le_of_ble_eq_true rfl⟩⟩) rfl rfl (zk_rs (Nat.le_of_ble_eq_true rfl)) dX0_areNeighbours_10 ⟨by first | exact Nat.le_of_ble_eq_true rfl | omega | (dsimp only; omega), by first | exact Nat.le_of_ble_eq_true rfl | omega | (dsimp only; omega)⟩)) (fun v10 h => ?_)
    refine zv_ciR ((zr_Vl X (As := []) (rest := []) h (fun a h => wk_X2_isLive l h) (zk_l1 ⟨_, rfl, cwV 0 X.hts (lw_V q1570 q1177 q1178 q111 q1179) rfl rfl rfl ⟨rfl, md_X2_isLive⟩ ⟨Nat.le_of_ble_eq_true rfl, Nat.le_of_ble_eq_true rfl⟩⟩) rfl rfl (zk_rs (Nat.le_of_ble_eq_true rfl)) dX0_areNeighbours_13 ⟨by first | exact Nat.le_of_ble_eq_true rfl | omega | (dsimp only; omega), by first | exact Nat.le_of_ble_eq_true rfl | omega | (dsimp only; omega)⟩)) (fun v13 h => ?_)
    refine zv_if_eq X (tgt := 45) dX0_areNeighbours_16 (by decide) h (fun h => ?_) (fun h => ?_)
    · refine zv_iconst X (v := 0) dX0_areNeighbours_45 rfl ?_
      exact zv_zret X (ty := .boolean) rfl (by first | exact Nat.le_of_ble_eq_true rfl | omega | (dsimp only; omega)) (by first | exact Nat.le_of_ble_eq_true rfl | omega | (dsimp only; omega)) dX0_areNeighbours_46 ⟨rfl, ⟨h, rfl⟩⟩
    · refine zv_aload_n X 0 dX0_areNeighbours_19 rfl ?_
      refine zv_getf_r X fo_q402 dX0_areNeighbours_20 h (fun v20 h => ?_)
      refine zv_iload_n X 1 dX0_areNeighbours_23 rfl ?_
      refine zv_cqR ((zr_Vl X (As := [.int (x1)]) (rest := []) h (fun a h => wk_X1_parcel l h) (zk_l1 ⟨_, rfl, cwV 1 X.hts (lw_V q1371 q502 q503 q103 q504) rfl rfl rfl ⟨rfl, md_X1_parcel⟩ ⟨Nat.le_of_ble_eq_true rfl, Nat.le_of_ble_eq_true rfl⟩⟩) rfl rfl (zk_rs (Nat.le_of_ble_eq_true rfl)) dX0_areNeighbours_24 ⟨by first | exact Nat.le_of_ble_eq_true rfl | omega | (dsimp only; omega), by first | exact Nat.le_of_ble_eq_true rfl | omega | (dsimp only; omega)⟩)) (fun v24 h => ?_)
      refine zv_aload_n X 0 dX0_areNeighbours_27 rfl ?_
      refine zv_getf_r X fo_q402 dX0_areNeighbours_28 h (fun v28 h => ?_)
      refine zv_iload_n X 2 dX0_areNeighbours_31 rfl ?_
      refine zv_cqR ((zr_Vl X (As := [.int (x2)]) (rest := [va_rf (v24)]) h (fun a h => wk_X1_parcel l h) (zk_l1 ⟨_, rfl, cwV 1 X.hts (lw_V q1371 q502 q503 q103 q504) rfl rfl rfl ⟨rfl, md_X1_parcel⟩ ⟨Nat.le_of_ble_eq_true rfl, Nat.le_of_ble_eq_true rfl⟩⟩) rfl rfl (zk_rs (Nat.le_of_ble_eq_true rfl)) dX0_areNeighbours_32 ⟨by first | exact Nat.le_of_ble_eq_true rfl | omega | (dsimp only; omega), by first | exact Nat.le_of_ble_eq_true rfl | omega | (dsimp only; omega)⟩)) (fun v32 h => ?_)
      refine zv_ciR ((zr_Vl X (As := [va_rf (v32)]) (rest := []) h (fun a h => wk_X2_edge l h) (zk_l1 ⟨_, rfl, cwV 1 X.hts (lw_V q1618 q1423 q1424 q111 q1425) rfl rfl rfl ⟨rfl, md_X2_edge⟩ ⟨Nat.le_of_ble_eq_true rfl, Nat.le_of_ble_eq_true rfl⟩⟩) rfl rfl (zk_rs (Nat.le_of_ble_eq_true rfl)) dX0_areNeighbours_35 ⟨by first | exact Nat.le_of_ble_eq_true rfl | omega | (dsimp only; omega), by first | exact Nat.le_of_ble_eq_true rfl | omega | (dsimp only; omega)⟩)) (fun v35 h => ?_)
      refine zv_if_le X (tgt := 45) dX0_areNeighbours_38 (by decide) h (fun h => ?_) (fun h => ?_)
      · refine zv_iconst X (v := 0) dX0_areNeighbours_45 rfl ?_
        exact zv_zret X (ty := .boolean) rfl (by first | exact Nat.le_of_ble_eq_true rfl | omega | (dsimp only; omega)) (by first | exact Nat.le_of_ble_eq_true rfl | omega | (dsimp only; omega)) dX0_areNeighbours_46 ⟨rfl, ⟨h, rfl⟩⟩
      · refine zv_iconst X (v := 1) dX0_areNeighbours_41 rfl ?_
        refine zv_goto X (tgt := 46) dX0_areNeighbours_42 (by decide) ?_
        exact zv_zret X (ty := .boolean) rfl (by first | exact Nat.le_of_ble_eq_true rfl | omega | (dsimp only; omega)) (by first | exact Nat.le_of_ble_eq_true rfl | omega | (dsimp only; omega)) dX0_areNeighbours_46 ⟨rfl, ⟨h, rfl⟩⟩
theorem kj_X0_neighbours_33 {p : Program} {l : Launch} {e : Env} {s : State} {m : MethodId} {args : Array Value} {below : List Frame} {meth : Method} {c : Code} {D : zk_G} {g : zk_M} {b0 : Nat} (X : zk_X p s m args meth c D g b0 cX0_neighbours 4 "LandFolio" "neighbours" (some Jvm.ClassFile.FieldType.int)) {post : Int32 → Prop} {K4 : Int32 → Int32 → Prop} {a0 : Option Nat} {a1 : Int32} {a3 : Int32} {s0 : Int32} {s1 : Int32} {P : zk_H}  (hK4 : ∀ (u2 : Int32) (u3 : Int32), K4 u2 u3 → zV p l e ({ frames := 5, cells := 0, slots := 0, locals := 107 } : Room) s m args below meth c D b0 4 (0) (0) (MQ below (va_Qi (fun r u => post r ∧ u = P) (zk_B D b0) (zk_A b0)) args s 0 0 (zk_A b0)) P 4 [(0, va_rf (a0)), (1, .int (a1)), (2, .int (u2)), (3, .int (u3))] [])  (hh : wj_X0_neighbours_33 post K4 a0 a1 a3 s0 s1 P) : zV p l e ({ frames := 5, cells := 0, slots := 0, locals := 107 } : Room) s m args below meth c D b0 4 (0) (0) (MQ below (va_Qi (fun r u => post r ∧ u = P) (zk_B D b0) (zk_A b0)) args s 0 0 (zk_A b0)) P 33 [(0, va_rf (a0)), (1, .int (a1)), (3, .int (a3))] [.int (s0), .int (s1)] := by
  have h := hh
  unfold wj_X0_neighbours_33 at h
  refine zv_iadd X dX0_neighbours_33 ?_
  refine zv_top_i h (fun v34 h => ?_)
  refine zv_istore_n X (i := 2) (L' := [(2, .int (v34)), (0, va_rf (a0)), (1, .int (a1)), (3, .int (a3))]) dX0_neighbours_34 rfl (by decide) rfl ?_
  obtain ⟨v35, e35, h⟩ := zt_e h
  refine zv_iinc X (v := v35) (L' := [(3, .int (v35)), (2, .int (v34)), (0, va_rf (a0)), (1, .int (a1))]) 3 dX0_neighbours_35 rfl e35 (by decide) rfl ?_
  refine zv_goto X (tgt := 4) dX0_neighbours_38 (by decide) ?_
  refine zv_sub (L' := [(0, va_rf (a0)), (1, .int (a1)), (2, .int (v34)), (3, .int (v35))]) [2, 3, 1, 0] rfl ?_
  exact hK4 _ _ h
theorem kb_X0_neighbours_4 {p : Program} {l : Launch} {e : Env} {s : State} {m : MethodId} {args : Array Value} {below : List Frame} {meth : Method} {c : Code} {D : zk_G} {g : zk_M} {b0 : Nat} (X : zk_X p s m args meth c D g b0 cX0_neighbours 4 "LandFolio" "neighbours" (some Jvm.ClassFile.FieldType.int)) {post : Int32 → Prop}  {K4 : Int32 → Int32 → Prop} {a0 : Option Nat} {a1 : Int32} {a2 : Int32} {a3 : Int32} {P : zk_H}   (hK4 : ∀ (u2 : Int32) (u3 : Int32), K4 u2 u3 → zV p l e ({ frames := 5, cells := 0, slots := 0, locals := 107 } : Room) s m args below meth c D b0 4 (0) (0) (MQ below (va_Qi (fun r u => post r ∧ u = P) (zk_B D b0) (zk_A b0)) args s 0 0 (zk_A b0)) P 4 [(0, va_rf (a0)), (1, .int (a1)), (2, .int (u2)), (3, .int (u3))] [])  (hh : wb_X0_neighbours_4 post a0 a1 P K4 a2 a3) : zV p l e ({ frames := 5, cells := 0, slots := 0, locals := 107 } : Room) s m args below meth c D b0 4 (0) (0) (MQ below (va_Qi (fun r u => post r ∧ u = P) (zk_B D b0) (zk_A b0)) args s 0 0 (zk_A b0)) P 4 [(0, va_rf (a0)), (1, .int (a1)), (2, .int (a2)), (3, .int (a3))] [] := by
  have h := hh
  unfold wb_X0_neighbours_4 at h
  refine zv_iload_n X 3 dX0_neighbours_4 rfl ?_
  refine zv_aload_n X 0 dX0_neighbours_5 rfl ?_
  refine zv_getf_r X fo_q402 dX0_neighbours_6 h (fun v6 h => ?_)
  refine zv_getf_r X fo_q195 dX0_neighbours_9 h (fun v9 h => ?_)
  refine zv_ciR ((zr_Vl X (As := []) (rest := [.int (a3)]) h (fun a h => wk_J2_size l h) (zk_l1 ⟨_, rfl, cwV 0 X.hts (lw_V q672 q362 q363 q106 q364) rfl rfl rfl ⟨rfl, md_J2_size⟩ ⟨Nat.le_of_ble_eq_true rfl, Nat.le_of_ble_eq_true rfl⟩⟩) rfl rfl (zk_rs (Nat.le_of_ble_eq_true rfl)) dX0_neighbours_12 ⟨by first | exact Nat.le_of_ble_eq_true rfl | omega | (dsimp only; omega), by first | exact Nat.le_of_ble_eq_true rfl | omega | (dsimp only; omega)⟩)) (fun v12 h => ?_)
  refine zv_icmp_ge X (tgt := 41) dX0_neighbours_15 (by decide) h (fun h => ?_) (fun h => ?_)
  · refine zv_iload_n X 2 dX0_neighbours_41 rfl ?_
    exact zv_iret X rfl (by first | exact Nat.le_of_ble_eq_true rfl | omega | (dsimp only; omega)) (by first | exact Nat.le_of_ble_eq_true rfl | omega | (dsimp only; omega)) dX0_neighbours_42 ⟨h, rfl⟩
  · refine zv_iload_n X 2 dX0_neighbours_18 rfl ?_
    refine zv_aload_n X 0 dX0_neighbours_19 rfl ?_
    refine zv_iload_n X 1 dX0_neighbours_20 rfl ?_
    refine zv_iload_n X 3 dX0_neighbours_21 rfl ?_
    refine zv_ciR ((zr_Vl X (As := [.int (a1), .int (a3)]) (rest := [.int (a2)]) h (fun a h => wk_X0_areNeighbours l h) (zk_l1 ⟨_, rfl, cwV 2 X.hts (lw_V q1614 q1616 qs42 q102 q1617) rfl rfl rfl ⟨rfl, md_X0_areNeighbours⟩ ⟨Nat.le_of_ble_eq_true rfl, Nat.le_of_ble_eq_true rfl⟩⟩) rfl rfl (zk_rs (Nat.le_of_ble_eq_true rfl)) dX0_neighbours_22 ⟨by first | exact Nat.le_of_ble_eq_true rfl | omega | (dsimp only; omega), by first | exact Nat.le_of_ble_eq_true rfl | omega | (dsimp only; omega)⟩)) (fun v22 h => ?_)
    refine zv_if_eq X (tgt := 32) dX0_neighbours_25 (by decide) h (fun h => ?_) (fun h => ?_)
    · refine zv_iconst X (v := 0) dX0_neighbours_32 rfl ?_
      refine zv_sub (L' := [(0, va_rf (a0)), (1, .int (a1)), (3, .int (a3))]) [0, 1, 3] rfl ?_
      exact kj_X0_neighbours_33 X hK4 h
    · refine zv_iconst X (v := 1) dX0_neighbours_28 rfl ?_
      refine zv_goto X (tgt := 33) dX0_neighbours_29 (by decide) ?_
      refine zv_sub (L' := [(0, va_rf (a0)), (1, .int (a1)), (3, .int (a3))]) [0, 1, 3] rfl ?_
      exact kj_X0_neighbours_33 X hK4 h
theorem kl_X0_neighbours_4 {p : Program} {l : Launch} {e : Env} {s : State} {m : MethodId} {args : Array Value} {below : List Frame} {meth : Method} {c : Code} {D : zk_G} {g : zk_M} {b0 : Nat} (X : zk_X p s m args meth c D g b0 cX0_neighbours 4 "LandFolio" "neighbours" (some Jvm.ClassFile.FieldType.int)) {post : Int32 → Prop}  {a0 : Option Nat} {a1 : Int32} {P : zk_H}   : ∀ (n : Nat) (a2 : Int32) (a3 : Int32), wl_X0_neighbours_4 post a0 a1 P n a2 a3 → zV p l e ({ frames := 5, cells := 0, slots := 0, locals := 107 } : Room) s m args below meth c D b0 4 (0) (0) (MQ below (va_Qi (fun r u => post r ∧ u = P) (zk_B D b0) (zk_A b0)) args s 0 0 (zk_A b0)) P 4 [(0, va_rf (a0)), (1, .int (a1)), (2, .int (a2)), (3, .int (a3))] [] := by
  intro n
  induction n with
  | zero => intro _ _ h; exact h.elim
  | succ n ih =>
    intro a2 a3 h
    exact kb_X0_neighbours_4 X  (fun u0 u1 h => ih _ _ h)  h
theorem md_X0_neighbours : yX0_neighbours.cls ≠ "java/lang/invoke/MethodHandle" ∧ yX0_neighbours.cls ≠ "java/lang/invoke/VarHandle" ∧ (parseMethodDescriptor yX0_neighbours.desc).map (fun d => d.parameters.length) = some 1 := by decide +kernel
theorem wk_X0_neighbours (l : Launch) {D : zk_G} {g : zk_M} {b0 : Nat} {post : Int32 → Prop} {this : Nat} {x1 : Int32} {P : zk_H} (hh : wp_X0_neighbours post this x1 P) : Met l yX0_neighbours (ws_ yX0_neighbours cX0_neighbours 4 (some Jvm.ClassFile.FieldType.int)) ({ frames := 5, cells := 0, slots := 0, locals := 107 } : Room) (va_Pc [.ref this, .int (x1)] (zk_pre D g b0 P)) (va_Qi (fun r u => post r ∧ u = P) (zk_B D b0) (zk_A b0)) 0 0 (zk_A b0) := by
  refine zk_enter "LandFolio" "neighbours" rfl rfl (plainFor_of_name (by decide)) [.ref this, .int (x1)] (Nat.le_of_ble_eq_true rfl) ?_
  intro p e s m args below meth c X
  refine zk_at0 (L' := [(0, va_rf (some this)), (1, .int (x1))]) (rfl) ?_
  have h := hh
  unfold wp_X0_neighbours at h
  refine zv_iconst X (v := 0) dX0_neighbours_0 rfl ?_
  refine zv_istore_n X (i := 2) (L' := [(2, .int (0)), (0, va_rf (some this)), (1, .int (x1))]) dX0_neighbours_1 rfl (by decide) rfl ?_
  refine zv_iconst X (v := 0) dX0_neighbours_2 rfl ?_
  refine zv_istore_n X (i := 3) (L' := [(3, .int (0)), (2, .int (0)), (0, va_rf (some this)), (1, .int (x1))]) dX0_neighbours_3 rfl (by decide) rfl ?_
  refine zv_sub (L' := [(0, va_rf (some this)), (1, .int (x1)), (2, .int (0)), (3, .int (0))]) [2, 3, 1, 0] rfl ?_
  obtain ⟨n3, h⟩ := h
  exact kl_X0_neighbours_4 X  n3 _ _ h
theorem kj_X0_pairs_42 {p : Program} {l : Launch} {e : Env} {s : State} {m : MethodId} {args : Array Value} {below : List Frame} {meth : Method} {c : Code} {D : zk_G} {g : zk_M} {b0 : Nat} (X : zk_X p s m args meth c D g b0 cX0_pairs 3 "LandFolio" "pairs" (some Jvm.ClassFile.FieldType.int)) {post : Int32 → Prop} {K4 : Int32 → Int32 → Prop} {a0 : Option Nat} {a2 : Int32} {s0 : Int32} {s1 : Int32} {P : zk_H}  (hK4 : ∀ (u1 : Int32) (u2 : Int32), K4 u1 u2 → zV p l e ({ frames := 6, cells := 0, slots := 0, locals := 130 } : Room) s m args below meth c D b0 3 (0) (0) (MQ below (va_Qi (fun r u => post r ∧ u = P) (zk_B D b0) (zk_A b0)) args s 0 0 (zk_A b0)) P 4 [(0, va_rf (a0)), (1, .int (u1)), (2, .int (u2))] [])  (hh : wj_X0_pairs_42 post K4 a0 a2 s0 s1 P) : zV p l e ({ frames := 6, cells := 0, slots := 0, locals := 130 } : Room) s m args below meth c D b0 3 (0) (0) (MQ below (va_Qi (fun r u => post r ∧ u = P) (zk_B D b0) (zk_A b0)) args s 0 0 (zk_A b0)) P 42 [(0, va_rf (a0)), (2, .int (a2))] [.int (s0), .int (s1)] := by
  have h := hh
  unfold wj_X0_pairs_42 at h
  refine zv_iadd X dX0_pairs_42 ?_
  refine zv_top_i h (fun v43 h => ?_)
  refine zv_istore_n X (i := 1) (L' := [(1, .int (v43)), (0, va_rf (a0)), (2, .int (a2))]) dX0_pairs_43 rfl (by decide) (by simp [zk_s1, zk_s2, zk_rc, zk_ic, zk_jc]) ?_
  obtain ⟨v44, e44, h⟩ := zt_e h
  refine zv_iinc X (v := v44) (L' := [(2, .int (v44)), (1, .int (v43)), (0, va_rf (a0))]) 2 dX0_pairs_44 rfl e44 (by decide) rfl ?_
  refine zv_goto X (tgt := 4) dX0_pairs_47 (by decide) ?_
  refine zv_sub (L' := [(0, va_rf (a0)), (1, .int (v43)), (2, .int (v44))]) [2, 1, 0] rfl ?_
  exact hK4 _ _ h
theorem kb_X0_pairs_4 {p : Program} {l : Launch} {e : Env} {s : State} {m : MethodId} {args : Array Value} {below : List Frame} {meth : Method} {c : Code} {D : zk_G} {g : zk_M} {b0 : Nat} (X : zk_X p s m args meth c D g b0 cX0_pairs 3 "LandFolio" "pairs" (some Jvm.ClassFile.FieldType.int)) {post : Int32 → Prop}  {K4 : Int32 → Int32 → Prop} {a0 : Option Nat} {a1 : Int32} {a2 : Int32} {P : zk_H}   (hK4 : ∀ (u1 : Int32) (u2 : Int32), K4 u1 u2 → zV p l e ({ frames := 6, cells := 0, slots := 0, locals := 130 } : Room) s m args below meth c D b0 3 (0) (0) (MQ below (va_Qi (fun r u => post r ∧ u = P) (zk_B D b0) (zk_A b0)) args s 0 0 (zk_A b0)) P 4 [(0, va_rf (a0)), (1, .int (u1)), (2, .int (u2))] [])  (hh : wb_X0_pairs_4 post a0 P K4 a1 a2) : zV p l e ({ frames := 6, cells := 0, slots := 0, locals := 130 } : Room) s m args below meth c D b0 3 (0) (0) (MQ below (va_Qi (fun r u => post r ∧ u = P) (zk_B D b0) (zk_A b0)) args s 0 0 (zk_A b0)) P 4 [(0, va_rf (a0)), (1, .int (a1)), (2, .int (a2))] [] := by
  have h := hh
  unfold wb_X0_pairs_4 at h
  refine zv_iload_n X 2 dX0_pairs_4 rfl ?_
  refine zv_aload_n X 0 dX0_pairs_5 rfl ?_
  refine zv_getf_r X fo_q402 dX0_pairs_6 h (fun v6 h => ?_)
  refine zv_getf_r X fo_q195 dX0_pairs_9 h (fun v9 h => ?_)
  refine zv_ciR ((zr_Vl X (As := []) (rest := [.int (a2)]) h (fun a h => wk_J2_size l h) (zk_l1 ⟨_, rfl, cwV 0 X.hts (lw_V q672 q362 q363 q106 q364) rfl rfl rfl ⟨rfl, md_J2_size⟩ ⟨Nat.le_of_ble_eq_true rfl, Nat.le_of_ble_eq_true rfl⟩⟩) rfl rfl (zk_rs (Nat.le_of_ble_eq_true rfl)) dX0_pairs_12 ⟨by first | exact Nat.le_of_ble_eq_true rfl | omega | (dsimp only; omega), by first | exact Nat.le_of_ble_eq_true rfl | omega | (dsimp only; omega)⟩)) (fun v12 h => ?_)
  refine zv_icmp_ge X (tgt := 50) dX0_pairs_15 (by decide) h (fun h => ?_) (fun h => ?_)
  · refine zv_iload_n X 1 dX0_pairs_50 rfl ?_
    refine zv_iconst X (v := 2) dX0_pairs_51 rfl ?_
    refine zv_idiv X dX0_pairs_52 (by decide) ?_
    exact zv_iret X rfl (by first | exact Nat.le_of_ble_eq_true rfl | omega | (dsimp only; omega)) (by first | exact Nat.le_of_ble_eq_true rfl | omega | (dsimp only; omega)) dX0_pairs_53 ⟨h, rfl⟩
  · refine zv_iload_n X 1 dX0_pairs_18 rfl ?_
    refine zv_aload_n X 0 dX0_pairs_19 rfl ?_
    refine zv_getf_r X fo_q402 dX0_pairs_20 h (fun v20 h => ?_)
    refine zv_iload_n X 2 dX0_pairs_23 rfl ?_
    refine zv_cqR ((zr_Vl X (As := [.int (a2)]) (rest := [.int (a1)]) h (fun a h => wk_X1_parcel l h) (zk_l1 ⟨_, rfl, cwV 1 X.hts (lw_V q1371 q502 q503 q103 q504) rfl rfl rfl ⟨rfl, md_X1_parcel⟩ ⟨Nat.le_of_ble_eq_true rfl, Nat.le_of_ble_eq_true rfl⟩⟩) rfl rfl (zk_rs (Nat.le_of_ble_eq_true rfl)) dX0_pairs_24 ⟨by first | exact Nat.le_of_ble_eq_true rfl | omega | (dsimp only; omega), by first | exact Nat.le_of_ble_eq_true rfl | omega | (dsimp only; omega)⟩)) (fun v24 h => ?_)
    refine zv_ciR ((zr_Vl X (As := []) (rest := [.int (a1)]) h (fun a h => wk_X2_isLive l h) (zk_l1 ⟨_, rfl, cwV 0 X.hts (lw_V q1570 q1177 q1178 q111 q1179) rfl rfl rfl ⟨rfl, md_X2_isLive⟩ ⟨Nat.le_of_ble_eq_true rfl, Nat.le_of_ble_eq_true rfl⟩⟩) rfl rfl (zk_rs (Nat.le_of_ble_eq_true rfl)) dX0_pairs_27 ⟨by first | exact Nat.le_of_ble_eq_true rfl | omega | (dsimp only; omega), by first | exact Nat.le_of_ble_eq_true rfl | omega | (dsimp only; omega)⟩)) (fun v27 h => ?_)
    refine zv_if_eq X (tgt := 41) dX0_pairs_30 (by decide) h (fun h => ?_) (fun h => ?_)
    · refine zv_iconst X (v := 0) dX0_pairs_41 rfl ?_
      refine zv_sub (L' := [(0, va_rf (a0)), (2, .int (a2))]) [0, 2] rfl ?_
      exact kj_X0_pairs_42 X hK4 h
    · refine zv_aload_n X 0 dX0_pairs_33 rfl ?_
      refine zv_iload_n X 2 dX0_pairs_34 rfl ?_
      refine zv_ciR ((zr_Vl X (As := [.int (a2)]) (rest := [.int (a1)]) h (fun a h => wk_X0_neighbours l h) (zk_l1 ⟨_, rfl, cwV 1 X.hts (lw_V q1610 q1612 qs41 q102 q1613) rfl rfl rfl ⟨rfl, md_X0_neighbours⟩ ⟨Nat.le_of_ble_eq_true rfl, Nat.le_of_ble_eq_true rfl⟩⟩) rfl rfl (zk_rs (Nat.le_of_ble_eq_true rfl)) dX0_pairs_35 ⟨by first | exact Nat.le_of_ble_eq_true rfl | omega | (dsimp only; omega), by first | exact Nat.le_of_ble_eq_true rfl | omega | (dsimp only; omega)⟩)) (fun v35 h => ?_)
      refine zv_goto X (tgt := 42) dX0_pairs_38 (by decide) ?_
      refine zv_sub (L' := [(0, va_rf (a0)), (2, .int (a2))]) [0, 2] rfl ?_
      exact kj_X0_pairs_42 X hK4 h
theorem kl_X0_pairs_4 {p : Program} {l : Launch} {e : Env} {s : State} {m : MethodId} {args : Array Value} {below : List Frame} {meth : Method} {c : Code} {D : zk_G} {g : zk_M} {b0 : Nat} (X : zk_X p s m args meth c D g b0 cX0_pairs 3 "LandFolio" "pairs" (some Jvm.ClassFile.FieldType.int)) {post : Int32 → Prop}  {a0 : Option Nat} {P : zk_H}   : ∀ (n : Nat) (a1 : Int32) (a2 : Int32), wl_X0_pairs_4 post a0 P n a1 a2 → zV p l e ({ frames := 6, cells := 0, slots := 0, locals := 130 } : Room) s m args below meth c D b0 3 (0) (0) (MQ below (va_Qi (fun r u => post r ∧ u = P) (zk_B D b0) (zk_A b0)) args s 0 0 (zk_A b0)) P 4 [(0, va_rf (a0)), (1, .int (a1)), (2, .int (a2))] [] := by
  intro n
  induction n with
  | zero => intro _ _ h; exact h.elim
  | succ n ih =>
    intro a1 a2 h
    exact kb_X0_pairs_4 X  (fun u0 u1 h => ih _ _ h)  h
theorem md_X0_pairs : yX0_pairs.cls ≠ "java/lang/invoke/MethodHandle" ∧ yX0_pairs.cls ≠ "java/lang/invoke/VarHandle" ∧ (parseMethodDescriptor yX0_pairs.desc).map (fun d => d.parameters.length) = some 0 := by decide +kernel
theorem wk_X0_pairs (l : Launch) {D : zk_G} {g : zk_M} {b0 : Nat} {post : Int32 → Prop} {this : Nat} {P : zk_H} (hh : wp_X0_pairs post this P) : Met l yX0_pairs (ws_ yX0_pairs cX0_pairs 3 (some Jvm.ClassFile.FieldType.int)) ({ frames := 6, cells := 0, slots := 0, locals := 130 } : Room) (va_Pc [.ref this] (zk_pre D g b0 P)) (va_Qi (fun r u => post r ∧ u = P) (zk_B D b0) (zk_A b0)) 0 0 (zk_A b0) := by
  refine zk_enter "LandFolio" "pairs" rfl rfl (plainFor_of_name (by decide)) [.ref this] (Nat.le_of_ble_eq_true rfl) ?_
  intro p e s m args below meth c X
  refine zk_at0 (L' := [(0, va_rf (some this))]) (rfl) ?_
  have h := hh
  unfold wp_X0_pairs at h
  refine zv_iconst X (v := 0) dX0_pairs_0 rfl ?_
  refine zv_istore_n X (i := 1) (L' := [(1, .int (0)), (0, va_rf (some this))]) dX0_pairs_1 rfl (by decide) rfl ?_
  refine zv_iconst X (v := 0) dX0_pairs_2 rfl ?_
  refine zv_istore_n X (i := 2) (L' := [(2, .int (0)), (1, .int (0)), (0, va_rf (some this))]) dX0_pairs_3 rfl (by decide) rfl ?_
  refine zv_sub (L' := [(0, va_rf (some this)), (1, .int (0)), (2, .int (0))]) [2, 1, 0] rfl ?_
  obtain ⟨n3, h⟩ := h
  exact kl_X0_pairs_4 X  n3 _ _ h
