/-! walks, printed by gen/run.py -/
theorem kj_X5_numerals_95 {p : Program} {l : Launch} {e : Env} {s : State} {m : MethodId} {args : Array Value} {below : List Frame} {meth : Method} {c : Code} {D : zk_G} {g : zk_M} {b0 : Nat} (X : zk_X p s m args meth c D g b0 cX5_numerals 1 "LandFolio$Reader" "numerals" none) {post : zk_H → Prop}  {s0 : Int32} {s1 : Option Nat} {P : zk_H}    (hh : wj_X5_numerals_95 post s0 s1 P) : zV p l e ({ frames := 2, cells := 0, slots := 0, locals := 44 } : Room) s m args below meth c D b0 1 (0) (0) (MQ below (va_Qv post (zk_B D b0) (zk_A b0)) args s 0 0 (zk_A b0)) P 95 [] [.int (s0), va_rf (s1)] := by
  have h := hh
  unfold wj_X5_numerals_95 at h
  refine zv_put_i X fp_q1009 (fun z => by cases z) dX5_numerals_95 h (fun P95 h => ?_)
  exact zv_vret X rfl (by first | exact Nat.le_of_ble_eq_true rfl | omega | (dsimp only; omega)) (by first | exact Nat.le_of_ble_eq_true rfl | omega | (dsimp only; omega)) dX5_numerals_98 h
theorem kj_X5_numerals_60 {p : Program} {l : Launch} {e : Env} {s : State} {m : MethodId} {args : Array Value} {below : List Frame} {meth : Method} {c : Code} {D : zk_G} {g : zk_M} {b0 : Nat} (X : zk_X p s m args meth c D g b0 cX5_numerals 1 "LandFolio$Reader" "numerals" none) {post : zk_H → Prop} {K5 : zk_H → Prop} {a0 : Option Nat} {s0 : Int32} {s1 : Option Nat} {P : zk_H}  (hK5 : ∀  (U : zk_H), K5  U → zV p l e ({ frames := 2, cells := 0, slots := 0, locals := 44 } : Room) s m args below meth c D b0 1 (0) (0) (MQ below (va_Qv post (zk_B D b0) (zk_A b0)) args s 0 0 (zk_A b0)) U 5 [(0, va_rf (a0))] [])  (hh : wj_X5_numerals_60 post K5 a0 s0 s1 P) : zV p l e ({ frames := 2, cells := 0, slots := 0, locals := 44 } : Room) s m args below meth c D b0 1 (0) (0) (MQ below (va_Qv post (zk_B D b0) (zk_A b0)) args s 0 0 (zk_A b0)) P 60 [(0, va_rf (a0))] [.int (s0), va_rf (s1)] := by
  have h := hh
  unfold wj_X5_numerals_60 at h
  refine zv_put_i X fp_q1011 (fun z => by cases z) dX5_numerals_60 h (fun P60 h => ?_)
  refine zv_aload_n X 0 dX5_numerals_63 rfl ?_
  refine zv_dup X dX5_numerals_64 (zk_rc _) ?_
  refine zv_getf_i X fo_q1007 dX5_numerals_65 h (fun v65 h => ?_)
  refine zv_iconst X (v := 1) dX5_numerals_68 rfl ?_
  refine zv_iadd X dX5_numerals_69 ?_
  refine zv_put_i X fp_q1007 (fun z => by cases z) dX5_numerals_70 h (fun P70 h => ?_)
  refine zv_goto X (tgt := 5) dX5_numerals_73 (by decide) ?_
  exact hK5 _ h
theorem kb_X5_numerals_5 {p : Program} {l : Launch} {e : Env} {s : State} {m : MethodId} {args : Array Value} {below : List Frame} {meth : Method} {c : Code} {D : zk_G} {g : zk_M} {b0 : Nat} (X : zk_X p s m args meth c D g b0 cX5_numerals 1 "LandFolio$Reader" "numerals" none) {post : zk_H → Prop}  {K5 : zk_H → Prop} {a0 : Option Nat} {P : zk_H}   (hK5 : ∀  (U : zk_H), K5  U → zV p l e ({ frames := 2, cells := 0, slots := 0, locals := 44 } : Room) s m args below meth c D b0 1 (0) (0) (MQ below (va_Qv post (zk_B D b0) (zk_A b0)) args s 0 0 (zk_A b0)) U 5 [(0, va_rf (a0))] [])  (hh : wb_X5_numerals_5 post a0 K5 P) : zV p l e ({ frames := 2, cells := 0, slots := 0, locals := 44 } : Room) s m args below meth c D b0 1 (0) (0) (MQ below (va_Qv post (zk_B D b0) (zk_A b0)) args s 0 0 (zk_A b0)) P 5 [(0, va_rf (a0))] [] := by
  have h := hh
  unfold wb_X5_numerals_5 at h
  refine zv_aload_n X 0 dX5_numerals_5 rfl ?_
  refine zv_bipush X (v := 48) dX5_numerals_6 rfl ?_
  refine zv_bipush X (v := 57) dX5_numerals_8 rfl ?_
  refine zv_ciR ((zr_Vl X (As := [.int (48), .int (57)]) (rest := []) h (fun a h => wk_X5_isAt l h) (zk_l1 ⟨_, rfl, cwV 2 X.hts (lw_V q741 q743 qs11 q115 q744) rfl rfl rfl ⟨rfl, md_X5_isAt⟩ ⟨Nat.le_of_ble_eq_true rfl, Nat.le_of_ble_eq_true rfl⟩⟩) rfl rfl (zk_rs (Nat.le_of_ble_eq_true rfl)) dX5_numerals_10 ⟨by first | exact Nat.le_of_ble_eq_true rfl | omega | (dsimp only; omega), by first | exact Nat.le_of_ble_eq_true rfl | omega | (dsimp only; omega)⟩)) (fun v10 h => ?_)
  refine zv_if_eq X (tgt := 76) dX5_numerals_13 (by decide) h (fun h => ?_) (fun h => ?_)
  · refine zv_aload_n X 0 dX5_numerals_76 rfl ?_
    refine zv_aload_n X 0 dX5_numerals_77 rfl ?_
    refine zv_getf_i X fo_q1007 dX5_numerals_78 h (fun v78 h => ?_)
    refine zv_aload_n X 0 dX5_numerals_81 rfl ?_
    refine zv_getf_i X fo_q1008 dX5_numerals_82 h (fun v82 h => ?_)
    refine zv_isub X dX5_numerals_85 ?_
    refine zv_iconst X (v := 4) dX5_numerals_86 rfl ?_
    refine zv_icmp_le X (tgt := 94) dX5_numerals_87 (by decide) h (fun h => ?_) (fun h => ?_)
    · refine zv_iconst X (v := 3) dX5_numerals_94 rfl ?_
      refine zv_sub (L' := []) [] rfl ?_
      exact kj_X5_numerals_95 X  h
    · refine zv_iconst X (v := 5) dX5_numerals_90 rfl ?_
      refine zv_goto X (tgt := 95) dX5_numerals_91 (by decide) ?_
      refine zv_sub (L' := []) [] rfl ?_
      exact kj_X5_numerals_95 X  h
  · refine zv_aload_n X 0 dX5_numerals_16 rfl ?_
    refine zv_aload_n X 0 dX5_numerals_17 rfl ?_
    refine zv_getf_i X fo_q1007 dX5_numerals_18 h (fun v18 h => ?_)
    refine zv_aload_n X 0 dX5_numerals_21 rfl ?_
    refine zv_getf_i X fo_q1008 dX5_numerals_22 h (fun v22 h => ?_)
    refine zv_isub X dX5_numerals_25 ?_
    refine zv_iconst X (v := 4) dX5_numerals_26 rfl ?_
    refine zv_icmp_ge X (tgt := 56) dX5_numerals_27 (by decide) h (fun h => ?_) (fun h => ?_)
    · refine zv_aload_n X 0 dX5_numerals_56 rfl ?_
      refine zv_getf_i X fo_q1011 dX5_numerals_57 h (fun v57 h => ?_)
      exact kj_X5_numerals_60 X hK5 h
    · refine zv_bipush X (v := 10) dX5_numerals_30 rfl ?_
      refine zv_aload_n X 0 dX5_numerals_32 rfl ?_
      refine zv_getf_i X fo_q1011 dX5_numerals_33 h (fun v33 h => ?_)
      refine zv_imul X dX5_numerals_36 ?_
      refine zv_aload_n X 0 dX5_numerals_37 rfl ?_
      refine zv_getf_r X fo_q1012 dX5_numerals_38 h (fun v38 h => ?_)
      refine zv_getf_r X fo_q405 dX5_numerals_41 h (fun v41 h => ?_)
      refine zv_aload_n X 0 dX5_numerals_44 rfl ?_
      refine zv_getf_i X fo_q1007 dX5_numerals_45 h (fun v45 h => ?_)
      refine zv_bald X dX5_numerals_48 h (fun v48 h => ?_)
      refine zv_iadd X dX5_numerals_49 ?_
      refine zv_bipush X (v := 48) dX5_numerals_50 rfl ?_
      refine zv_isub X dX5_numerals_52 ?_
      refine zv_goto X (tgt := 60) dX5_numerals_53 (by decide) ?_
      exact kj_X5_numerals_60 X hK5 h
theorem kl_X5_numerals_5 {p : Program} {l : Launch} {e : Env} {s : State} {m : MethodId} {args : Array Value} {below : List Frame} {meth : Method} {c : Code} {D : zk_G} {g : zk_M} {b0 : Nat} (X : zk_X p s m args meth c D g b0 cX5_numerals 1 "LandFolio$Reader" "numerals" none) {post : zk_H → Prop}  {a0 : Option Nat}   : ∀ (n : Nat)  (P : zk_H), wl_X5_numerals_5 post a0 n P → zV p l e ({ frames := 2, cells := 0, slots := 0, locals := 44 } : Room) s m args below meth c D b0 1 (0) (0) (MQ below (va_Qv post (zk_B D b0) (zk_A b0)) args s 0 0 (zk_A b0)) P 5 [(0, va_rf (a0))] [] := by
  intro n
  induction n with
  | zero => intro _ h; exact h.elim
  | succ n ih =>
    intro P h
    exact kb_X5_numerals_5 X  (fun u0 h => ih _ h)  h
theorem md_X5_numerals : yX5_numerals.cls ≠ "java/lang/invoke/MethodHandle" ∧ yX5_numerals.cls ≠ "java/lang/invoke/VarHandle" ∧ (parseMethodDescriptor yX5_numerals.desc).map (fun d => d.parameters.length) = some 0 := by decide +kernel
theorem wk_X5_numerals (l : Launch) {D : zk_G} {g : zk_M} {b0 : Nat} {post : zk_H → Prop} {this : Nat} {P : zk_H} (hh : wp_X5_numerals post this P) : Met l yX5_numerals (ws_ yX5_numerals cX5_numerals 1 none) ({ frames := 2, cells := 0, slots := 0, locals := 44 } : Room) (va_Pc [.ref this] (zk_pre D g b0 P)) (va_Qv post (zk_B D b0) (zk_A b0)) 0 0 (zk_A b0) := by
  refine zk_enter "LandFolio$Reader" "numerals" rfl rfl (plainFor_of_name (by decide)) [.ref this] (Nat.le_of_ble_eq_true rfl) ?_
  intro p e s m args below meth c X
  refine zk_at0 (L' := [(0, va_rf (some this))]) (rfl) ?_
  have h := hh
  unfold wp_X5_numerals at h
  refine zv_aload_n X 0 dX5_numerals_0 rfl ?_
  refine zv_iconst X (v := 0) dX5_numerals_1 rfl ?_
  refine zv_put_i X fp_q1011 (fun z => by cases z) dX5_numerals_2 h (fun P2 h => ?_)
  obtain ⟨n2, h⟩ := h
  exact kl_X5_numerals_5 X  n2 _ h
theorem kj_X5_letters_46 {p : Program} {l : Launch} {e : Env} {s : State} {m : MethodId} {args : Array Value} {below : List Frame} {meth : Method} {c : Code} {D : zk_G} {g : zk_M} {b0 : Nat} (X : zk_X p s m args meth c D g b0 cX5_letters 2 "LandFolio$Reader" "letters" none) {post : zk_H → Prop} {K8 : zk_H → Prop} {a0 : Option Nat} {a1 : Option Nat} {P : zk_H}  (hK8 : ∀  (U : zk_H), K8  U → zV p l e ({ frames := 6, cells := 4, slots := 144, locals := 151 } : Room) s m args below meth c D b0 2 (2) (132) (MQ below (va_Qv post (zk_B D b0) (zk_A b0)) args s 4 144 (zk_A b0)) U 8 [(0, va_rf (a0)), (1, va_rf (a1))] [])  (hh : wj_X5_letters_46 g post K8 a0 a1 P) : zV p l e ({ frames := 6, cells := 4, slots := 144, locals := 151 } : Room) s m args below meth c D b0 2 (2) (132) (MQ below (va_Qv post (zk_B D b0) (zk_A b0)) args s 4 144 (zk_A b0)) P 46 [(0, va_rf (a0)), (1, va_rf (a1))] [] := by
  have h := hh
  unfold wj_X5_letters_46 at h
  refine zv_aload_n X 0 dX5_letters_46 rfl ?_
  refine zv_dup X dX5_letters_47 (zk_rc _) ?_
  refine zv_getf_i X fo_q1007 dX5_letters_48 h (fun v48 h => ?_)
  refine zv_iconst X (v := 1) dX5_letters_51 rfl ?_
  refine zv_iadd X dX5_letters_52 ?_
  refine zv_put_i X fp_q1007 (fun z => by cases z) dX5_letters_53 h (fun P53 h => ?_)
  refine zv_goto X (tgt := 8) dX5_letters_56 (by decide) ?_
  refine zv_widen (c2 := 2) (s2 := 132) (by first | exact Nat.le_refl _ | omega) (by first | exact Nat.le_refl _ | omega) ?_
  exact hK8 _ h
theorem kb_X5_letters_8 {p : Program} {l : Launch} {e : Env} {s : State} {m : MethodId} {args : Array Value} {below : List Frame} {meth : Method} {c : Code} {D : zk_G} {g : zk_M} {b0 : Nat} (X : zk_X p s m args meth c D g b0 cX5_letters 2 "LandFolio$Reader" "letters" none) {post : zk_H → Prop}  {K8 : zk_H → Prop} {a0 : Option Nat} {a1 : Option Nat} {P : zk_H}   (hK8 : ∀  (U : zk_H), K8  U → zV p l e ({ frames := 6, cells := 4, slots := 144, locals := 151 } : Room) s m args below meth c D b0 2 (2) (132) (MQ below (va_Qv post (zk_B D b0) (zk_A b0)) args s 4 144 (zk_A b0)) U 8 [(0, va_rf (a0)), (1, va_rf (a1))] [])  (hh : wb_X5_letters_8 g post a0 a1 K8 P) : zV p l e ({ frames := 6, cells := 4, slots := 144, locals := 151 } : Room) s m args below meth c D b0 2 (2) (132) (MQ below (va_Qv post (zk_B D b0) (zk_A b0)) args s 4 144 (zk_A b0)) P 8 [(0, va_rf (a0)), (1, va_rf (a1))] [] := by
  have h := hh
  unfold wb_X5_letters_8 at h
  refine zv_aload_n X 0 dX5_letters_8 rfl ?_
  refine zv_bipush X (v := 97) dX5_letters_9 rfl ?_
  refine zv_bipush X (v := 122) dX5_letters_11 rfl ?_
  refine zv_ciR ((zr_Vl X (As := [.int (97), .int (122)]) (rest := []) h (fun a h => wk_X5_isAt l h) (zk_l1 ⟨_, rfl, cwV 2 X.hts (lw_V q741 q743 qs11 q115 q744) rfl rfl rfl ⟨rfl, md_X5_isAt⟩ ⟨Nat.le_of_ble_eq_true rfl, Nat.le_of_ble_eq_true rfl⟩⟩) rfl rfl (zk_rs (Nat.le_of_ble_eq_true rfl)) dX5_letters_13 ⟨by first | exact Nat.le_of_ble_eq_true rfl | omega | (dsimp only; omega), by first | exact Nat.le_of_ble_eq_true rfl | omega | (dsimp only; omega)⟩)) (fun v13 h => ?_)
  refine zv_if_eq X (tgt := 59) dX5_letters_16 (by decide) h (fun h => ?_) (fun h => ?_)
  · refine zv_aload_n X 0 dX5_letters_59 rfl ?_
    refine zv_aload_n X 1 dX5_letters_60 rfl ?_
    refine zv_cq ((zr_Vl X (As := []) (rest := [va_rf (a0)]) h (fun a h => wk_J8_toString l h) (zk_l1 ⟨_, rfl, cwV 0 X.hts (lw_V q864 q865 q866 q117 q867) rfl rfl rfl ⟨rfl, md_J8_toString⟩ ⟨Nat.le_of_ble_eq_true rfl, Nat.le_of_ble_eq_true rfl⟩⟩) rfl rfl (zk_rs (Nat.le_of_ble_eq_true rfl)) dX5_letters_61 ⟨by first | exact Nat.le_of_ble_eq_true rfl | omega | (dsimp only; omega), by first | exact Nat.le_of_ble_eq_true rfl | omega | (dsimp only; omega)⟩)) (fun v61 P61 h => ?_)
    refine zv_put_r X fp_q1010 (zk_tyO _) (fun z => by cases z) dX5_letters_64 h (fun P64 h => ?_)
    refine zv_aload_n X 0 dX5_letters_67 rfl ?_
    refine zv_aload_n X 0 dX5_letters_68 rfl ?_
    refine zv_getf_r X fo_q1010 dX5_letters_69 h (fun v69 h => ?_)
    refine zv_ci ((zr_SN X (As := [va_rf (v69)]) (rest := [va_rf (a0)]) (wk_X0_kindOf l h) ⟨zk_cwN X 1 q920 (lw_meth q922) q102 md_X0_kindOf ⟨Nat.le_of_ble_eq_true rfl, Nat.le_of_ble_eq_true rfl⟩, q921⟩ rfl rfl (zk_rs (Nat.le_of_ble_eq_true rfl)) dX5_letters_72 ⟨by first | exact Nat.le_of_ble_eq_true rfl | omega | (dsimp only; omega), by first | exact Nat.le_of_ble_eq_true rfl | omega | (dsimp only; omega)⟩)) (fun v72 P72 h => ?_)
    refine zv_put_i X fp_q1009 (fun z => by cases z) dX5_letters_75 h (fun P75 h => ?_)
    exact zv_vret X rfl (by first | exact Nat.le_of_ble_eq_true rfl | omega | (dsimp only; omega)) (by first | exact Nat.le_of_ble_eq_true rfl | omega | (dsimp only; omega)) dX5_letters_78 h
  · refine zv_aload_n X 1 dX5_letters_19 rfl ?_
    refine zv_ciR ((zr_Vl X (As := []) (rest := []) h (fun a h => wk_J8_length l h) (zk_l1 ⟨_, rfl, cwV 0 X.hts (lw_V q781 q782 q783 q117 q784) rfl rfl rfl ⟨rfl, md_J8_length⟩ ⟨Nat.le_of_ble_eq_true rfl, Nat.le_of_ble_eq_true rfl⟩⟩) rfl rfl (zk_rs (Nat.le_of_ble_eq_true rfl)) dX5_letters_20 ⟨by first | exact Nat.le_of_ble_eq_true rfl | omega | (dsimp only; omega), by first | exact Nat.le_of_ble_eq_true rfl | omega | (dsimp only; omega)⟩)) (fun v20 h => ?_)
    refine zv_bipush X (v := 6) dX5_letters_23 rfl ?_
    refine zv_icmp_ge X (tgt := 46) dX5_letters_25 (by decide) h (fun h => ?_) (fun h => ?_)
    · refine zv_widen (c2 := 2) (s2 := 132) (by first | exact Nat.le_of_ble_eq_true rfl | omega | (dsimp only; omega)) (by first | exact Nat.le_of_ble_eq_true rfl | omega | (dsimp only; omega)) ?_
      exact kj_X5_letters_46 X hK8 h
    · refine zv_aload_n X 1 dX5_letters_28 rfl ?_
      refine zv_aload_n X 0 dX5_letters_29 rfl ?_
      refine zv_getf_r X fo_q1012 dX5_letters_30 h (fun v30 h => ?_)
      refine zv_getf_r X fo_q405 dX5_letters_33 h (fun v33 h => ?_)
      refine zv_aload_n X 0 dX5_letters_36 rfl ?_
      refine zv_getf_i X fo_q1007 dX5_letters_37 h (fun v37 h => ?_)
      refine zv_bald X dX5_letters_40 h (fun v40 h => ?_)
      refine zv_i2c X dX5_letters_41 ?_
      refine zv_cq ((zr_Vl X (As := [.int ((v40.toUInt32 % 65536).toInt32)]) (rest := []) h (fun a h => wk_J8_append l h) (zk_l1 ⟨_, rfl, cwV 1 X.hts (lw_V q788 q789 q790 q117 q791) rfl rfl rfl ⟨rfl, md_J8_append⟩ ⟨Nat.le_of_ble_eq_true rfl, Nat.le_of_ble_eq_true rfl⟩⟩) rfl rfl (zk_rs (Nat.le_of_ble_eq_true rfl)) dX5_letters_42 ⟨by first | exact Nat.le_of_ble_eq_true rfl | omega | (dsimp only; omega), by first | exact Nat.le_of_ble_eq_true rfl | omega | (dsimp only; omega)⟩)) (fun v42 P42 h => ?_)
      refine zv_pop X dX5_letters_45 (zk_rc _) ?_
      refine zv_widen (c2 := 2) (s2 := 132) (by first | exact Nat.le_of_ble_eq_true rfl | omega | (dsimp only; omega)) (by first | exact Nat.le_of_ble_eq_true rfl | omega | (dsimp only; omega)) ?_
      exact kj_X5_letters_46 X hK8 h
theorem kl_X5_letters_8 {p : Program} {l : Launch} {e : Env} {s : State} {m : MethodId} {args : Array Value} {below : List Frame} {meth : Method} {c : Code} {D : zk_G} {g : zk_M} {b0 : Nat} (X : zk_X p s m args meth c D g b0 cX5_letters 2 "LandFolio$Reader" "letters" none) {post : zk_H → Prop}  {a0 : Option Nat} {a1 : Option Nat}   : ∀ (n : Nat)  (P : zk_H), wl_X5_letters_8 g post a0 a1 n P → zV p l e ({ frames := 6, cells := 4, slots := 144, locals := 151 } : Room) s m args below meth c D b0 2 (2) (132) (MQ below (va_Qv post (zk_B D b0) (zk_A b0)) args s 4 144 (zk_A b0)) P 8 [(0, va_rf (a0)), (1, va_rf (a1))] [] := by
  intro n
  induction n with
  | zero => intro _ h; exact h.elim
  | succ n ih =>
    intro P h
    exact kb_X5_letters_8 X  (fun u0 h => ih _ h)  h
theorem md_X5_letters : yX5_letters.cls ≠ "java/lang/invoke/MethodHandle" ∧ yX5_letters.cls ≠ "java/lang/invoke/VarHandle" ∧ (parseMethodDescriptor yX5_letters.desc).map (fun d => d.parameters.length) = some 0 := by decide +kernel
theorem wk_X5_letters (l : Launch) {D : zk_G} {g : zk_M} {b0 : Nat} {post : zk_H → Prop} {this : Nat} {P : zk_H} (hh : wp_X5_letters g post this P) : Met l yX5_letters (ws_ yX5_letters cX5_letters 2 none) ({ frames := 6, cells := 4, slots := 144, locals := 151 } : Room) (va_Pc [.ref this] (zk_pre D g b0 P)) (va_Qv post (zk_B D b0) (zk_A b0)) 4 144 (zk_A b0) := by
  refine zk_enter "LandFolio$Reader" "letters" rfl rfl (plainFor_of_name (by decide)) [.ref this] (Nat.le_of_ble_eq_true rfl) ?_
  intro p e s m args below meth c X
  refine zk_at0 (L' := [(0, va_rf (some this))]) (rfl) ?_
  have h := hh
  unfold wp_X5_letters at h
  refine zv_new X zk_nc14 q750 (by first | exact Nat.le_of_ble_eq_true rfl | omega | (dsimp only; omega)) (by first | exact Nat.le_of_ble_eq_true rfl | omega | (dsimp only; omega)) dX5_letters_0 h (fun v0 P0 h => ?_)
  refine zv_dup X dX5_letters_3 (zk_rc _) ?_
  refine zv_cv ((zr_I X (As := []) (rest := [va_rf (some v0)]) (wk_J8_init l h) (cwI 0 X.hts (lw_meth q754) rfl rfl rfl (X.w q117) (X.w q752) (X.w q753) rfl md_J8_init ⟨Nat.le_of_ble_eq_true rfl, Nat.le_of_ble_eq_true rfl⟩) rfl rfl (zk_rs (Nat.le_of_ble_eq_true rfl)) dX5_letters_4 ⟨by first | exact Nat.le_of_ble_eq_true rfl | omega | (dsimp only; omega), by first | exact Nat.le_of_ble_eq_true rfl | omega | (dsimp only; omega)⟩)) (fun P4 h => ?_)
  refine zv_astore_n X (i := 1) (L' := [(1, va_rf (some v0)), (0, va_rf (some this))]) dX5_letters_7 rfl (by decide) rfl ?_
  refine zv_sub (L' := [(0, va_rf (some this)), (1, va_rf (some v0))]) [1, 0] rfl ?_
  obtain ⟨n7, h⟩ := h
  refine zv_widen (c2 := 2) (s2 := 132) (by first | exact Nat.le_refl _ | omega) (by first | exact Nat.le_refl _ | omega) ?_
  exact kl_X5_letters_8 X  n7 _ h
theorem kj_X5_next_124 {p : Program} {l : Launch} {e : Env} {s : State} {m : MethodId} {args : Array Value} {below : List Frame} {meth : Method} {c : Code} {D : zk_G} {g : zk_M} {b0 : Nat} (X : zk_X p s m args meth c D g b0 cX5_next 1 "LandFolio$Reader" "next" none) {post : zk_H → Prop}  {a0 : Option Nat} {s0 : Int32} {s1 : Option Nat} {P : zk_H}    (hh : wj_X5_next_124 g post a0 s0 s1 P) : zV p l e ({ frames := 7, cells := 4, slots := 144, locals := 172 } : Room) s m args below meth c D b0 1 (0) (0) (MQ below (va_Qv post (zk_B D b0) (zk_A b0)) args s 4 144 (zk_A b0)) P 124 [(0, va_rf (a0))] [.int (s0), va_rf (s1)] := by
  have h := hh
  unfold wj_X5_next_124 at h
  refine zv_put_i X fp_q1009 (fun z => by cases z) dX5_next_124 h (fun P124 h => ?_)
  refine zv_aload_n X 0 dX5_next_127 rfl ?_
  refine zv_dup X dX5_next_128 (zk_rc _) ?_
  refine zv_getf_i X fo_q1007 dX5_next_129 h (fun v129 h => ?_)
  refine zv_iconst X (v := 1) dX5_next_132 rfl ?_
  refine zv_iadd X dX5_next_133 ?_
  refine zv_put_i X fp_q1007 (fun z => by cases z) dX5_next_134 h (fun P134 h => ?_)
  exact zv_vret X rfl (by first | exact Nat.le_of_ble_eq_true rfl | omega | (dsimp only; omega)) (by first | exact Nat.le_of_ble_eq_true rfl | omega | (dsimp only; omega)) dX5_next_137 h
theorem kj_X5_next_22 {p : Program} {l : Launch} {e : Env} {s : State} {m : MethodId} {args : Array Value} {below : List Frame} {meth : Method} {c : Code} {D : zk_G} {g : zk_M} {b0 : Nat} (X : zk_X p s m args meth c D g b0 cX5_next 1 "LandFolio$Reader" "next" none) {post : zk_H → Prop} {K0 : zk_H → Prop} {a0 : Option Nat} {P : zk_H}  (hK0 : ∀  (U : zk_H), K0  U → zV p l e ({ frames := 7, cells := 4, slots := 144, locals := 172 } : Room) s m args below meth c D b0 1 (0) (0) (MQ below (va_Qv post (zk_B D b0) (zk_A b0)) args s 4 144 (zk_A b0)) U 0 [(0, va_rf (a0))] [])  (hh : wj_X5_next_22 g post K0 a0 P) : zV p l e ({ frames := 7, cells := 4, slots := 144, locals := 172 } : Room) s m args below meth c D b0 1 (0) (0) (MQ below (va_Qv post (zk_B D b0) (zk_A b0)) args s 4 144 (zk_A b0)) P 22 [(0, va_rf (a0))] [] := by
  have h := hh
  unfold wj_X5_next_22 at h
  refine zv_aload_n X 0 dX5_next_22 rfl ?_
  refine zv_dup X dX5_next_23 (zk_rc _) ?_
  refine zv_getf_i X fo_q1007 dX5_next_24 h (fun v24 h => ?_)
  refine zv_iconst X (v := 1) dX5_next_27 rfl ?_
  refine zv_iadd X dX5_next_28 ?_
  refine zv_put_i X fp_q1007 (fun z => by cases z) dX5_next_29 h (fun P29 h => ?_)
  refine zv_goto X (tgt := 0) dX5_next_32 (by decide) ?_
  refine zv_widen (c2 := 0) (s2 := 0) (by first | exact Nat.le_refl _ | omega) (by first | exact Nat.le_refl _ | omega) ?_
  exact hK0 _ h
theorem kb_X5_next_0 {p : Program} {l : Launch} {e : Env} {s : State} {m : MethodId} {args : Array Value} {below : List Frame} {meth : Method} {c : Code} {D : zk_G} {g : zk_M} {b0 : Nat} (X : zk_X p s m args meth c D g b0 cX5_next 1 "LandFolio$Reader" "next" none) {post : zk_H → Prop}  {K0 : zk_H → Prop} {a0 : Option Nat} {P : zk_H}   (hK0 : ∀  (U : zk_H), K0  U → zV p l e ({ frames := 7, cells := 4, slots := 144, locals := 172 } : Room) s m args below meth c D b0 1 (0) (0) (MQ below (va_Qv post (zk_B D b0) (zk_A b0)) args s 4 144 (zk_A b0)) U 0 [(0, va_rf (a0))] [])  (hh : wb_X5_next_0 g post a0 K0 P) : zV p l e ({ frames := 7, cells := 4, slots := 144, locals := 172 } : Room) s m args below meth c D b0 1 (0) (0) (MQ below (va_Qv post (zk_B D b0) (zk_A b0)) args s 4 144 (zk_A b0)) P 0 [(0, va_rf (a0))] [] := by
  have h := hh
  unfold wb_X5_next_0 at h
  refine zv_aload_n X 0 dX5_next_0 rfl ?_
  refine zv_bipush X (v := 32) dX5_next_1 rfl ?_
  refine zv_bipush X (v := 32) dX5_next_3 rfl ?_
  refine zv_ciR ((zr_Vl X (As := [.int (32), .int (32)]) (rest := []) h (fun a h => wk_X5_isAt l h) (zk_l1 ⟨_, rfl, cwV 2 X.hts (lw_V q741 q743 qs11 q115 q744) rfl rfl rfl ⟨rfl, md_X5_isAt⟩ ⟨Nat.le_of_ble_eq_true rfl, Nat.le_of_ble_eq_true rfl⟩⟩) rfl rfl (zk_rs (Nat.le_of_ble_eq_true rfl)) dX5_next_5 ⟨by first | exact Nat.le_of_ble_eq_true rfl | omega | (dsimp only; omega), by first | exact Nat.le_of_ble_eq_true rfl | omega | (dsimp only; omega)⟩)) (fun v5 h => ?_)
  refine zv_if_ne X (tgt := 22) dX5_next_8 (by decide) h (fun h => ?_) (fun h => ?_)
  · refine zv_widen (c2 := 0) (s2 := 0) (by first | exact Nat.le_of_ble_eq_true rfl | omega | (dsimp only; omega)) (by first | exact Nat.le_of_ble_eq_true rfl | omega | (dsimp only; omega)) ?_
    exact kj_X5_next_22 X hK0 h
  · refine zv_aload_n X 0 dX5_next_11 rfl ?_
    refine zv_bipush X (v := 10) dX5_next_12 rfl ?_
    refine zv_bipush X (v := 10) dX5_next_14 rfl ?_
    refine zv_ciR ((zr_Vl X (As := [.int (10), .int (10)]) (rest := []) h (fun a h => wk_X5_isAt l h) (zk_l1 ⟨_, rfl, cwV 2 X.hts (lw_V q741 q743 qs11 q115 q744) rfl rfl rfl ⟨rfl, md_X5_isAt⟩ ⟨Nat.le_of_ble_eq_true rfl, Nat.le_of_ble_eq_true rfl⟩⟩) rfl rfl (zk_rs (Nat.le_of_ble_eq_true rfl)) dX5_next_16 ⟨by first | exact Nat.le_of_ble_eq_true rfl | omega | (dsimp only; omega), by first | exact Nat.le_of_ble_eq_true rfl | omega | (dsimp only; omega)⟩)) (fun v16 h => ?_)
    refine zv_if_eq X (tgt := 35) dX5_next_19 (by decide) h (fun h => ?_) (fun h => ?_)
    · refine zv_aload_n X 0 dX5_next_35 rfl ?_
      refine zv_aload_n X 0 dX5_next_36 rfl ?_
      refine zv_getf_i X fo_q1007 dX5_next_37 h (fun v37 h => ?_)
      refine zv_put_i X fp_q1008 (fun z => by cases z) dX5_next_40 h (fun P40 h => ?_)
      refine zv_aload_n X 0 dX5_next_43 rfl ?_
      refine zv_getf_i X fo_q1007 dX5_next_44 h (fun v44 h => ?_)
      refine zv_aload_n X 0 dX5_next_47 rfl ?_
      refine zv_getf_r X fo_q1012 dX5_next_48 h (fun v48 h => ?_)
      refine zv_getf_i X fo_q407 dX5_next_51 h (fun v51 h => ?_)
      refine zv_icmp_ne X (tgt := 65) dX5_next_54 (by decide) h (fun h => ?_) (fun h => ?_)
      · refine zv_aload_n X 0 dX5_next_65 rfl ?_
        refine zv_bipush X (v := 97) dX5_next_66 rfl ?_
        refine zv_bipush X (v := 122) dX5_next_68 rfl ?_
        refine zv_ciR ((zr_Vl X (As := [.int (97), .int (122)]) (rest := []) h (fun a h => wk_X5_isAt l h) (zk_l1 ⟨_, rfl, cwV 2 X.hts (lw_V q741 q743 qs11 q115 q744) rfl rfl rfl ⟨rfl, md_X5_isAt⟩ ⟨Nat.le_of_ble_eq_true rfl, Nat.le_of_ble_eq_true rfl⟩⟩) rfl rfl (zk_rs (Nat.le_of_ble_eq_true rfl)) dX5_next_70 ⟨by first | exact Nat.le_of_ble_eq_true rfl | omega | (dsimp only; omega), by first | exact Nat.le_of_ble_eq_true rfl | omega | (dsimp only; omega)⟩)) (fun v70 h => ?_)
        refine zv_if_eq X (tgt := 83) dX5_next_73 (by decide) h (fun h => ?_) (fun h => ?_)
        · refine zv_aload_n X 0 dX5_next_83 rfl ?_
          refine zv_bipush X (v := 48) dX5_next_84 rfl ?_
          refine zv_bipush X (v := 57) dX5_next_86 rfl ?_
          refine zv_ciR ((zr_Vl X (As := [.int (48), .int (57)]) (rest := []) h (fun a h => wk_X5_isAt l h) (zk_l1 ⟨_, rfl, cwV 2 X.hts (lw_V q741 q743 qs11 q115 q744) rfl rfl rfl ⟨rfl, md_X5_isAt⟩ ⟨Nat.le_of_ble_eq_true rfl, Nat.le_of_ble_eq_true rfl⟩⟩) rfl rfl (zk_rs (Nat.le_of_ble_eq_true rfl)) dX5_next_88 ⟨by first | exact Nat.le_of_ble_eq_true rfl | omega | (dsimp only; omega), by first | exact Nat.le_of_ble_eq_true rfl | omega | (dsimp only; omega)⟩)) (fun v88 h => ?_)
          refine zv_if_eq X (tgt := 101) dX5_next_91 (by decide) h (fun h => ?_) (fun h => ?_)
          · refine zv_aload_n X 0 dX5_next_101 rfl ?_
            refine zv_aload_n X 0 dX5_next_102 rfl ?_
            refine zv_getf_r X fo_q1012 dX5_next_103 h (fun v103 h => ?_)
            refine zv_getf_r X fo_q405 dX5_next_106 h (fun v106 h => ?_)
            refine zv_aload_n X 0 dX5_next_109 rfl ?_
            refine zv_getf_i X fo_q1007 dX5_next_110 h (fun v110 h => ?_)
            refine zv_bald X dX5_next_113 h (fun v113 h => ?_)
            refine zv_bipush X (v := 59) dX5_next_114 rfl ?_
            refine zv_icmp_ne X (tgt := 123) dX5_next_116 (by decide) h (fun h => ?_) (fun h => ?_)
            · refine zv_iconst X (v := 5) dX5_next_123 rfl ?_
              refine zv_widen (c2 := 0) (s2 := 0) (by first | exact Nat.le_of_ble_eq_true rfl | omega | (dsimp only; omega)) (by first | exact Nat.le_of_ble_eq_true rfl | omega | (dsimp only; omega)) ?_
              exact kj_X5_next_124 X  h
            · refine zv_iconst X (v := 4) dX5_next_119 rfl ?_
              refine zv_goto X (tgt := 124) dX5_next_120 (by decide) ?_
              refine zv_widen (c2 := 0) (s2 := 0) (by first | exact Nat.le_of_ble_eq_true rfl | omega | (dsimp only; omega)) (by first | exact Nat.le_of_ble_eq_true rfl | omega | (dsimp only; omega)) ?_
              exact kj_X5_next_124 X  h
          · refine zv_aload_n X 0 dX5_next_94 rfl ?_
            refine zv_cv ((zr_Vl X (As := []) (rest := []) h (fun a h => wk_X5_numerals l h) (zk_l1 ⟨_, rfl, cwV 0 X.hts (lw_V q1001 q1003 qs13 q115 q1004) rfl rfl rfl ⟨rfl, md_X5_numerals⟩ ⟨Nat.le_of_ble_eq_true rfl, Nat.le_of_ble_eq_true rfl⟩⟩) rfl rfl (zk_rs (Nat.le_of_ble_eq_true rfl)) dX5_next_95 ⟨by first | exact Nat.le_of_ble_eq_true rfl | omega | (dsimp only; omega), by first | exact Nat.le_of_ble_eq_true rfl | omega | (dsimp only; omega)⟩)) (fun P95 h => ?_)
            refine zv_goto X (tgt := 137) dX5_next_98 (by decide) ?_
            exact zv_vret X rfl (by first | exact Nat.le_of_ble_eq_true rfl | omega | (dsimp only; omega)) (by first | exact Nat.le_of_ble_eq_true rfl | omega | (dsimp only; omega)) dX5_next_137 h
        · refine zv_aload_n X 0 dX5_next_76 rfl ?_
          refine zv_cv ((zr_Vl X (As := []) (rest := []) h (fun a h => wk_X5_letters l h) (zk_l1 ⟨_, rfl, cwV 0 X.hts (lw_V q746 q748 qs12 q115 q749) rfl rfl rfl ⟨rfl, md_X5_letters⟩ ⟨Nat.le_of_ble_eq_true rfl, Nat.le_of_ble_eq_true rfl⟩⟩) rfl rfl (zk_rs (Nat.le_of_ble_eq_true rfl)) dX5_next_77 ⟨by first | exact Nat.le_of_ble_eq_true rfl | omega | (dsimp only; omega), by first | exact Nat.le_of_ble_eq_true rfl | omega | (dsimp only; omega)⟩)) (fun P77 h => ?_)
          refine zv_goto X (tgt := 137) dX5_next_80 (by decide) ?_
          exact zv_vret X rfl (by first | exact Nat.le_of_ble_eq_true rfl | omega | (dsimp only; omega)) (by first | exact Nat.le_of_ble_eq_true rfl | omega | (dsimp only; omega)) dX5_next_137 h
      · refine zv_aload_n X 0 dX5_next_57 rfl ?_
        refine zv_iconst X (v := 0) dX5_next_58 rfl ?_
        refine zv_put_i X fp_q1009 (fun z => by cases z) dX5_next_59 h (fun P59 h => ?_)
        refine zv_goto X (tgt := 137) dX5_next_62 (by decide) ?_
        exact zv_vret X rfl (by first | exact Nat.le_of_ble_eq_true rfl | omega | (dsimp only; omega)) (by first | exact Nat.le_of_ble_eq_true rfl | omega | (dsimp only; omega)) dX5_next_137 h
    · refine zv_widen (c2 := 0) (s2 := 0) (by first | exact Nat.le_of_ble_eq_true rfl | omega | (dsimp only; omega)) (by first | exact Nat.le_of_ble_eq_true rfl | omega | (dsimp only; omega)) ?_
      exact kj_X5_next_22 X hK0 h
theorem kl_X5_next_0 {p : Program} {l : Launch} {e : Env} {s : State} {m : MethodId} {args : Array Value} {below : List Frame} {meth : Method} {c : Code} {D : zk_G} {g : zk_M} {b0 : Nat} (X : zk_X p s m args meth c D g b0 cX5_next 1 "LandFolio$Reader" "next" none) {post : zk_H → Prop}  {a0 : Option Nat}   : ∀ (n : Nat)  (P : zk_H), wl_X5_next_0 g post a0 n P → zV p l e ({ frames := 7, cells := 4, slots := 144, locals := 172 } : Room) s m args below meth c D b0 1 (0) (0) (MQ below (va_Qv post (zk_B D b0) (zk_A b0)) args s 4 144 (zk_A b0)) P 0 [(0, va_rf (a0))] [] := by
  intro n
  induction n with
  | zero => intro _ h; exact h.elim
  | succ n ih =>
    intro P h
    exact kb_X5_next_0 X  (fun u0 h => ih _ h)  h
theorem md_X5_next : yX5_next.cls ≠ "java/lang/invoke/MethodHandle" ∧ yX5_next.cls ≠ "java/lang/invoke/VarHandle" ∧ (parseMethodDescriptor yX5_next.desc).map (fun d => d.parameters.length) = some 0 := by decide +kernel
theorem wk_X5_next (l : Launch) {D : zk_G} {g : zk_M} {b0 : Nat} {post : zk_H → Prop} {this : Nat} {P : zk_H} (hh : wp_X5_next g post this P) : Met l yX5_next (ws_ yX5_next cX5_next 1 none) ({ frames := 7, cells := 4, slots := 144, locals := 172 } : Room) (va_Pc [.ref this] (zk_pre D g b0 P)) (va_Qv post (zk_B D b0) (zk_A b0)) 4 144 (zk_A b0) := by
  refine zk_enter "LandFolio$Reader" "next" rfl rfl (plainFor_of_name (by decide)) [.ref this] (Nat.le_of_ble_eq_true rfl) ?_
  intro p e s m args below meth c X
  refine zk_at0 (L' := [(0, va_rf (some this))]) (rfl) ?_
  have h := hh
  unfold wp_X5_next at h
  obtain ⟨nNone, h⟩ := h
  refine zv_widen (c2 := 0) (s2 := 0) (by first | exact Nat.le_refl _ | omega) (by first | exact Nat.le_refl _ | omega) ?_
  exact kl_X5_next_0 X  nNone _ h
theorem md_X6_init : yX6_init.cls ≠ "java/lang/invoke/MethodHandle" ∧ yX6_init.cls ≠ "java/lang/invoke/VarHandle" ∧ (parseMethodDescriptor yX6_init.desc).map (fun d => d.parameters.length) = some 1 := by decide +kernel
theorem wk_X6_init (l : Launch) {D : zk_G} {g : zk_M} {b0 : Nat} {post : zk_H → Prop} {this : Nat} {x1 : Int32} {P : zk_H} (hh : wp_X6_init g post this x1 P) : Met l yX6_init (ws_ yX6_init cX6_init 2 none) ({ frames := 3, cells := 0, slots := 0, locals := 68 } : Room) (va_Pc [.ref this, .int (x1)] (zk_pre D g b0 P)) (va_Qv post (zk_B D b0) (zk_A b0)) 0 0 (zk_A b0) := by
  refine zk_enter "LandFolio$Fault" "<init>" rfl rfl (plainFor_of_name (by decide)) [.ref this, .int (x1)] (Nat.le_of_ble_eq_true rfl) ?_
  intro p e s m args below meth c X
  refine zk_at0 (L' := [(0, va_rf (some this)), (1, .int (x1))]) (rfl) ?_
  have h := hh
  unfold wp_X6_init at h
  refine zv_aload_n X 0 dX6_init_0 rfl ?_
  refine zv_null X dX6_init_1 ?_
  refine zv_null X dX6_init_2 ?_
  refine zv_iconst X (v := 0) dX6_init_3 rfl ?_
  refine zv_iconst X (v := 0) dX6_init_4 rfl ?_
  refine zv_cv ((zr_I X (As := [va_rf (none), va_rf (none), .int (0), .int (0)]) (rest := []) (wk_J14_init l h) (cwI 4 X.hts (lw_meth q1085) rfl rfl rfl (X.w q123) (X.w q1083) (X.w q1084) rfl md_J14_init ⟨Nat.le_of_ble_eq_true rfl, Nat.le_of_ble_eq_true rfl⟩) rfl rfl (zk_rs (Nat.le_of_ble_eq_true rfl)) dX6_init_5 ⟨by first | exact Nat.le_of_ble_eq_true rfl | omega | (dsimp only; omega), by first | exact Nat.le_of_ble_eq_true rfl | omega | (dsimp only; omega)⟩)) (fun P5 h => ?_)
  refine zv_aload_n X 0 dX6_init_8 rfl ?_
  refine zv_iload_n X 1 dX6_init_9 rfl ?_
  refine zv_put_i X fp_q1089 (fun _ => rfl) dX6_init_10 h (fun P10 h => ?_)
  exact zv_vret X rfl (by first | exact Nat.le_of_ble_eq_true rfl | omega | (dsimp only; omega)) (by first | exact Nat.le_of_ble_eq_true rfl | omega | (dsimp only; omega)) dX6_init_13 h
theorem md_X5_takes : yX5_takes.cls ≠ "java/lang/invoke/MethodHandle" ∧ yX5_takes.cls ≠ "java/lang/invoke/VarHandle" ∧ (parseMethodDescriptor yX5_takes.desc).map (fun d => d.parameters.length) = some 1 := by decide +kernel
theorem wk_X5_takes (l : Launch) {D : zk_G} {g : zk_M} {b0 : Nat} {post : zk_H → Prop} {px : Nat → zk_H → Prop} {this : Nat} {x1 : Int32} {P : zk_H} (hh : wp_X5_takes g post px this x1 P) : zx_Met l yX5_takes (ws_ yX5_takes cX5_takes 2 none) ({ frames := 8, cells := 4, slots := 144, locals := 192 } : Room) (va_Pc [.ref this, .int (x1)] (zk_pre D g b0 P)) (va_Qv post (zk_B D b0) (zk_A b0)) (zx_X px (zx_B D b0) (zk_A b0)) 4 144 (zk_A b0) := by
  refine zx_enter "LandFolio$Reader" "takes" rfl rfl (by decide) [.ref this, .int (x1)] (Nat.le_of_ble_eq_true rfl) ?_
  intro p e s m args below meth c X hT
  refine zk_at0 (L' := [(0, va_rf (some this)), (1, .int (x1))]) (rfl) ?_
  have h := hh
  unfold wp_X5_takes at h
  refine zv_iload_n X 1 dX5_takes_0 rfl ?_
  refine zv_if_ne X (tgt := 16) dX5_takes_1 (by decide) h (fun h => ?_) (fun h => ?_)
  · refine zv_aload_n X 0 dX5_takes_16 rfl ?_
    refine zv_cv ((zr_Vl X (As := []) (rest := []) h (fun a h => wk_X5_next l h) (zk_l1 ⟨_, rfl, cwV 0 X.hts (lw_V q737 q738 q739 q115 q740) rfl rfl rfl ⟨rfl, md_X5_next⟩ ⟨Nat.le_of_ble_eq_true rfl, Nat.le_of_ble_eq_true rfl⟩⟩) rfl rfl (zk_rs (Nat.le_of_ble_eq_true rfl)) dX5_takes_17 ⟨by first | omega | (dsimp only; omega), by first | omega | (dsimp only; omega)⟩)) (fun P17 h => ?_)
    exact zvx_ret (zv_vret X rfl (by first | omega | (dsimp only; omega)) (by first | omega | (dsimp only; omega)) dX5_takes_20 h)
  · refine zv_new X zk_nc6 q1042 (by first | omega | (dsimp only; omega)) (by first | omega | (dsimp only; omega)) dX5_takes_4 h (fun v4 P4 h => ?_)
    refine zv_dup X dX5_takes_7 (zk_rc _) ?_
    refine zv_aload_n X 0 dX5_takes_8 rfl ?_
    refine zv_getf_i X fo_q1008 dX5_takes_9 h (fun v9 h => ?_)
    refine zv_cv ((zr_I X (As := [.int (v9)]) (rest := [va_rf (some v4)]) (wk_X6_init l h) (cwI 1 X.hts (lw_meth q1082) rfl rfl rfl (X.w q124) (X.w q1080) (X.w q1081) rfl md_X6_init ⟨Nat.le_of_ble_eq_true rfl, Nat.le_of_ble_eq_true rfl⟩) rfl rfl (zk_rs (Nat.le_of_ble_eq_true rfl)) dX5_takes_12 ⟨by first | omega | (dsimp only; omega), by first | omega | (dsimp only; omega)⟩)) (fun P12 h => ?_)
    exact zvx_athrow X hT (by omega) (by omega) dX5_takes_15 h
theorem kj_X5_fits_23 {p : Program} {l : Launch} {e : Env} {s : State} {m : MethodId} {args : Array Value} {below : List Frame} {meth : Method} {c : Code} {D : zk_G} {g : zk_M} {b0 : Nat} (X : zk_X p s m args meth c D g b0 cX5_fits 3 "LandFolio$Reader" "fits" (some Jvm.ClassFile.FieldType.int)) (hT : ∀ x ∈ c.exceptionTable.toList, False) {post : Int32 → zk_H → Prop} {px : Nat → zk_H → Prop}  {a2 : Int32} {s0 : Int32} {s1 : Option Nat} {P : zk_H}    (hh : wj_X5_fits_23 g post px a2 s0 s1 P) : zV p l e ({ frames := 9, cells := 4, slots := 144, locals := 213 } : Room) s m args below meth c D b0 3 (0) (0) (zx_MQ below (va_Qi post (zk_B D b0) (zk_A b0)) (zx_X px (zx_B D b0) (zk_A b0)) args s 4 144 (zk_A b0)) P 23 [(2, .int (a2))] [.int (s0), va_rf (s1)] := by
  have h := hh
  unfold wj_X5_fits_23 at h
  refine zvx_cv X hT (by omega) (by omega) ((zrx_Vl X (As := [.int (s0)]) (rest := []) h (fun a h => wk_X5_takes l h) (zk_l1 ⟨_, rfl, cwV 1 X.hts (lw_V q1038 q1039 q1040 q115 q1041) rfl rfl rfl ⟨rfl, md_X5_takes⟩ ⟨Nat.le_of_ble_eq_true rfl, Nat.le_of_ble_eq_true rfl⟩⟩) rfl rfl (zk_rs (Nat.le_of_ble_eq_true rfl)) dX5_fits_23 ⟨by first | omega | (dsimp only; omega), by first | omega | (dsimp only; omega)⟩)) (fun P23 h => ?_)
  refine zv_iload_n X 0 dX5_fits_26 rfl ?_
  exact zvx_ret (zv_iret X rfl (by first | omega | (dsimp only; omega)) (by first | omega | (dsimp only; omega)) dX5_fits_27 h)
theorem kj_X5_fits_22 {p : Program} {l : Launch} {e : Env} {s : State} {m : MethodId} {args : Array Value} {below : List Frame} {meth : Method} {c : Code} {D : zk_G} {g : zk_M} {b0 : Nat} (X : zk_X p s m args meth c D g b0 cX5_fits 3 "LandFolio$Reader" "fits" (some Jvm.ClassFile.FieldType.int)) (hT : ∀ x ∈ c.exceptionTable.toList, False) {post : Int32 → zk_H → Prop} {px : Nat → zk_H → Prop}  {a2 : Int32} {s0 : Option Nat} {P : zk_H}    (hh : wj_X5_fits_22 g post px a2 s0 P) : zV p l e ({ frames := 9, cells := 4, slots := 144, locals := 213 } : Room) s m args below meth c D b0 3 (0) (0) (zx_MQ below (va_Qi post (zk_B D b0) (zk_A b0)) (zx_X px (zx_B D b0) (zk_A b0)) args s 4 144 (zk_A b0)) P 22 [(2, .int (a2))] [va_rf (s0)] := by
  have h := hh
  unfold wj_X5_fits_22 at h
  refine zv_iconst X (v := 0) dX5_fits_22 rfl ?_
  refine zv_widen (c2 := 0) (s2 := 0) (by first | omega | (dsimp only; omega)) (by first | omega | (dsimp only; omega)) ?_
  exact kj_X5_fits_23 X hT  h
theorem md_X5_fits : yX5_fits.cls ≠ "java/lang/invoke/MethodHandle" ∧ yX5_fits.cls ≠ "java/lang/invoke/VarHandle" ∧ (parseMethodDescriptor yX5_fits.desc).map (fun d => d.parameters.length) = some 1 := by decide +kernel
theorem wk_X5_fits (l : Launch) {D : zk_G} {g : zk_M} {b0 : Nat} {post : Int32 → zk_H → Prop} {px : Nat → zk_H → Prop} {this : Nat} {x1 : Int32} {P : zk_H} (hh : wp_X5_fits g post px this x1 P) : zx_Met l yX5_fits (ws_ yX5_fits cX5_fits 3 (some Jvm.ClassFile.FieldType.int)) ({ frames := 9, cells := 4, slots := 144, locals := 213 } : Room) (va_Pc [.ref this, .int (x1)] (zk_pre D g b0 P)) (va_Qi post (zk_B D b0) (zk_A b0)) (zx_X px (zx_B D b0) (zk_A b0)) 4 144 (zk_A b0) := by
  refine zx_enter "LandFolio$Reader" "fits" rfl rfl (by decide) [.ref this, .int (x1)] (Nat.le_of_ble_eq_true rfl) ?_
  intro p e s m args below meth c X hT
  refine zk_at0 (L' := [(0, va_rf (some this)), (1, .int (x1))]) (rfl) ?_
  have h := hh
  unfold wp_X5_fits at h
  refine zv_aload_n X 0 dX5_fits_0 rfl ?_
  refine zv_getf_i X fo_q1011 dX5_fits_1 h (fun v1 h => ?_)
  refine zv_istore_n X (i := 2) (L' := [(2, .int (v1)), (0, va_rf (some this)), (1, .int (x1))]) dX5_fits_4 rfl (by decide) rfl ?_
  refine zv_aload_n X 1 dX5_fits_5 rfl ?_
  refine zv_aload_n X 1 dX5_fits_6 rfl ?_
  refine zv_getf_i X fo_q1009 dX5_fits_7 h (fun v7 h => ?_)
  refine zv_iconst X (v := 3) dX5_fits_10 rfl ?_
  refine zv_icmp_ne X (tgt := 22) dX5_fits_11 (by decide) h (fun h => ?_) (fun h => ?_)
  · refine zv_sub (L' := [(2, .int (v1))]) [0] rfl ?_
    refine zv_widen (c2 := 0) (s2 := 0) (by first | omega | (dsimp only; omega)) (by first | omega | (dsimp only; omega)) ?_
    exact kj_X5_fits_22 X hT  h
  · refine zv_iload_n X 2 dX5_fits_14 rfl ?_
    refine zv_if_eq X (tgt := 22) dX5_fits_15 (by decide) h (fun h => ?_) (fun h => ?_)
    · refine zv_sub (L' := [(2, .int (v1))]) [0] rfl ?_
      refine zv_widen (c2 := 0) (s2 := 0) (by first | omega | (dsimp only; omega)) (by first | omega | (dsimp only; omega)) ?_
      exact kj_X5_fits_22 X hT  h
    · refine zv_iconst X (v := 1) dX5_fits_18 rfl ?_
      refine zv_goto X (tgt := 23) dX5_fits_19 (by decide) ?_
      refine zv_sub (L' := [(2, .int (v1))]) [0] rfl ?_
      refine zv_widen (c2 := 0) (s2 := 0) (by first | omega | (dsimp only; omega)) (by first | omega | (dsimp only; omega)) ?_
      exact kj_X5_fits_23 X hT  h
theorem md_X5_upTo : yX5_upTo.cls ≠ "java/lang/invoke/MethodHandle" ∧ yX5_upTo.cls ≠ "java/lang/invoke/VarHandle" ∧ (parseMethodDescriptor yX5_upTo.desc).map (fun d => d.parameters.length) = some 2 := by decide +kernel
theorem wk_X5_upTo (l : Launch) {D : zk_G} {g : zk_M} {b0 : Nat} {post : Int32 → zk_H → Prop} {px : Nat → zk_H → Prop} {this : Nat} {x1 : Int32} {x2 : Int32} {P : zk_H} (hh : wp_X5_upTo g post px this x1 x2 P) : zx_Met l yX5_upTo (ws_ yX5_upTo cX5_upTo 3 (some Jvm.ClassFile.FieldType.int)) ({ frames := 10, cells := 4, slots := 144, locals := 235 } : Room) (va_Pc [.ref this, .int (x1), .int (x2)] (zk_pre D g b0 P)) (va_Qi post (zk_B D b0) (zk_A b0)) (zx_X px (zx_B D b0) (zk_A b0)) 4 144 (zk_A b0) := by
  refine zx_enter "LandFolio$Reader" "upTo" rfl rfl (by decide) [.ref this, .int (x1), .int (x2)] (Nat.le_of_ble_eq_true rfl) ?_
  intro p e s m args below meth c X hT
  refine zk_at0 (L' := [(0, va_rf (some this)), (1, .int (x1)), (2, .int (x2))]) (rfl) ?_
  have h := hh
  unfold wp_X5_upTo at h
  refine zv_aload_n X 0 dX5_upTo_0 rfl ?_
  refine zv_aload_n X 0 dX5_upTo_1 rfl ?_
  refine zv_getf_i X fo_q1011 dX5_upTo_2 h (fun v2 h => ?_)
  refine zv_iload_n X 1 dX5_upTo_5 rfl ?_
  refine zv_iload_n X 2 dX5_upTo_6 rfl ?_
  refine zv_ciR ((zr_SN X (As := [.int (v2), .int (x1), .int (x2)]) (rest := [va_rf (some this)]) (wk_X0_isIn l h) ⟨zk_cwN X 3 q745 (lw_meth q464) q102 md_X0_isIn ⟨Nat.le_of_ble_eq_true rfl, Nat.le_of_ble_eq_true rfl⟩, q463⟩ rfl rfl (zk_rs (Nat.le_of_ble_eq_true rfl)) dX5_upTo_7 ⟨by first | omega | (dsimp only; omega), by first | omega | (dsimp only; omega)⟩)) (fun v7 h => ?_)
  refine zvx_ci X hT (by omega) (by omega) ((zrx_Vl X (As := [.int (v7)]) (rest := []) h (fun a h => wk_X5_fits l h) (zk_l1 ⟨_, rfl, cwV 1 X.hts (lw_V q1110 q1112 qs17 q115 q1113) rfl rfl rfl ⟨rfl, md_X5_fits⟩ ⟨Nat.le_of_ble_eq_true rfl, Nat.le_of_ble_eq_true rfl⟩⟩) rfl rfl (zk_rs (Nat.le_of_ble_eq_true rfl)) dX5_upTo_10 ⟨by first | omega | (dsimp only; omega), by first | omega | (dsimp only; omega)⟩)) (fun v10 P10 h => ?_)
  exact zvx_ret (zv_iret X rfl (by first | omega | (dsimp only; omega)) (by first | omega | (dsimp only; omega)) dX5_upTo_13 h)
theorem kj_X5_owner_83 {p : Program} {l : Launch} {e : Env} {s : State} {m : MethodId} {args : Array Value} {below : List Frame} {meth : Method} {c : Code} {D : zk_G} {g : zk_M} {b0 : Nat} (X : zk_X p s m args meth c D g b0 cX5_owner 2 "LandFolio$Reader" "owner" none) (hT : ∀ x ∈ c.exceptionTable.toList, False) {post : zk_H → Prop} {px : Nat → zk_H → Prop}  {a0 : Option Nat} {a1 : Option Nat} {s0 : Int32} {s1 : Option Nat} {P : zk_H}    (hh : wj_X5_owner_83 g post px a0 a1 s0 s1 P) : zV p l e ({ frames := 9, cells := 13, slots := 528, locals := 213 } : Room) s m args below meth c D b0 2 (8) (288) (zx_MQ below (va_Qv post (zk_B D b0) (zk_A b0)) (zx_X px (zx_B D b0) (zk_A b0)) args s 13 528 (zk_A b0)) P 83 [(0, va_rf (a0)), (1, va_rf (a1))] [.int (s0), va_rf (s1)] := by
  have h := hh
  unfold wj_X5_owner_83 at h
  refine zvx_cv X hT (by omega) (by omega) ((zrx_Vl X (As := [.int (s0)]) (rest := []) h (fun a h => wk_X5_takes l h) (zk_l1 ⟨_, rfl, cwV 1 X.hts (lw_V q1038 q1039 q1040 q115 q1041) rfl rfl rfl ⟨rfl, md_X5_takes⟩ ⟨Nat.le_of_ble_eq_true rfl, Nat.le_of_ble_eq_true rfl⟩⟩) rfl rfl (zk_rs (Nat.le_of_ble_eq_true rfl)) dX5_owner_83 ⟨by first | omega | (dsimp only; omega), by first | omega | (dsimp only; omega)⟩)) (fun P83 h => ?_)
  refine zv_aload_n X 0 dX5_owner_86 rfl ?_
  refine zv_getf_r X fo_q1005 dX5_owner_87 h (fun v87 h => ?_)
  refine zv_getf_r X fo_q193 dX5_owner_90 h (fun v90 h => ?_)
  refine zv_aload_n X 1 dX5_owner_93 rfl ?_
  refine zv_ci ((zr_Vl X (As := [va_rf (a1)]) (rest := []) h (fun a h => wk_J2_add l h) (zk_l1 ⟨_, rfl, cwV 1 X.hts (lw_V q1161 q226 q227 q106 q228) rfl rfl rfl ⟨rfl, md_J2_add⟩ ⟨Nat.le_of_ble_eq_true rfl, Nat.le_of_ble_eq_true rfl⟩⟩) rfl rfl (zk_rs (Nat.le_of_ble_eq_true rfl)) dX5_owner_94 ⟨by first | omega | (dsimp only; omega), by first | omega | (dsimp only; omega)⟩)) (fun v94 P94 h => ?_)
  refine zv_pop X dX5_owner_97 rfl ?_
  exact zvx_ret (zv_vret X rfl (by first | omega | (dsimp only; omega)) (by first | omega | (dsimp only; omega)) dX5_owner_98 h)
theorem kj_X5_owner_66 {p : Program} {l : Launch} {e : Env} {s : State} {m : MethodId} {args : Array Value} {below : List Frame} {meth : Method} {c : Code} {D : zk_G} {g : zk_M} {b0 : Nat} (X : zk_X p s m args meth c D g b0 cX5_owner 2 "LandFolio$Reader" "owner" none) (hT : ∀ x ∈ c.exceptionTable.toList, False) {post : zk_H → Prop} {px : Nat → zk_H → Prop}  {a0 : Option Nat} {a1 : Option Nat} {s0 : Int32} {s1 : Option Nat} {P : zk_H}    (hh : wj_X5_owner_66 g post px a0 a1 s0 s1 P) : zV p l e ({ frames := 9, cells := 13, slots := 528, locals := 213 } : Room) s m args below meth c D b0 2 (4) (144) (zx_MQ below (va_Qv post (zk_B D b0) (zk_A b0)) (zx_X px (zx_B D b0) (zk_A b0)) args s 13 528 (zk_A b0)) P 66 [(0, va_rf (a0)), (1, va_rf (a1))] [.int (s0), va_rf (s1)] := by
  have h := hh
  unfold wj_X5_owner_66 at h
  refine zvx_cv X hT (by omega) (by omega) ((zrx_Vl X (As := [.int (s0)]) (rest := []) h (fun a h => wk_X5_takes l h) (zk_l1 ⟨_, rfl, cwV 1 X.hts (lw_V q1038 q1039 q1040 q115 q1041) rfl rfl rfl ⟨rfl, md_X5_takes⟩ ⟨Nat.le_of_ble_eq_true rfl, Nat.le_of_ble_eq_true rfl⟩⟩) rfl rfl (zk_rs (Nat.le_of_ble_eq_true rfl)) dX5_owner_66 ⟨by first | omega | (dsimp only; omega), by first | omega | (dsimp only; omega)⟩)) (fun P66 h => ?_)
  refine zv_aload_n X 0 dX5_owner_69 rfl ?_
  refine zv_aload_n X 0 dX5_owner_70 rfl ?_
  refine zv_getf_i X fo_q1009 dX5_owner_71 h (fun v71 h => ?_)
  refine zv_iconst X (v := 4) dX5_owner_74 rfl ?_
  refine zv_icmp_ne X (tgt := 82) dX5_owner_75 (by decide) h (fun h => ?_) (fun h => ?_)
  · refine zv_iconst X (v := 0) dX5_owner_82 rfl ?_
    refine zv_widen (c2 := 8) (s2 := 288) (by first | omega | (dsimp only; omega)) (by first | omega | (dsimp only; omega)) ?_
    exact kj_X5_owner_83 X hT  h
  · refine zv_iconst X (v := 1) dX5_owner_78 rfl ?_
    refine zv_goto X (tgt := 83) dX5_owner_79 (by decide) ?_
    refine zv_widen (c2 := 8) (s2 := 288) (by first | omega | (dsimp only; omega)) (by first | omega | (dsimp only; omega)) ?_
    exact kj_X5_owner_83 X hT  h
theorem kj_X5_owner_65 {p : Program} {l : Launch} {e : Env} {s : State} {m : MethodId} {args : Array Value} {below : List Frame} {meth : Method} {c : Code} {D : zk_G} {g : zk_M} {b0 : Nat} (X : zk_X p s m args meth c D g b0 cX5_owner 2 "LandFolio$Reader" "owner" none) (hT : ∀ x ∈ c.exceptionTable.toList, False) {post : zk_H → Prop} {px : Nat → zk_H → Prop}  {a0 : Option Nat} {a1 : Option Nat} {s0 : Option Nat} {P : zk_H}    (hh : wj_X5_owner_65 g post px a0 a1 s0 P) : zV p l e ({ frames := 9, cells := 13, slots := 528, locals := 213 } : Room) s m args below meth c D b0 2 (4) (144) (zx_MQ below (va_Qv post (zk_B D b0) (zk_A b0)) (zx_X px (zx_B D b0) (zk_A b0)) args s 13 528 (zk_A b0)) P 65 [(0, va_rf (a0)), (1, va_rf (a1))] [va_rf (s0)] := by
  have h := hh
  unfold wj_X5_owner_65 at h
  refine zv_iconst X (v := 0) dX5_owner_65 rfl ?_
  refine zv_widen (c2 := 4) (s2 := 144) (by first | omega | (dsimp only; omega)) (by first | omega | (dsimp only; omega)) ?_
  exact kj_X5_owner_66 X hT  h
theorem kj_X5_owner_30 {p : Program} {l : Launch} {e : Env} {s : State} {m : MethodId} {args : Array Value} {below : List Frame} {meth : Method} {c : Code} {D : zk_G} {g : zk_M} {b0 : Nat} (X : zk_X p s m args meth c D g b0 cX5_owner 2 "LandFolio$Reader" "owner" none) (hT : ∀ x ∈ c.exceptionTable.toList, False) {post : zk_H → Prop} {px : Nat → zk_H → Prop}  {a0 : Option Nat} {s0 : Int32} {s1 : Option Nat} {P : zk_H}    (hh : wj_X5_owner_30 g post px a0 s0 s1 P) : zV p l e ({ frames := 9, cells := 13, slots := 528, locals := 213 } : Room) s m args below meth c D b0 2 (0) (0) (zx_MQ below (va_Qv post (zk_B D b0) (zk_A b0)) (zx_X px (zx_B D b0) (zk_A b0)) args s 13 528 (zk_A b0)) P 30 [(0, va_rf (a0))] [.int (s0), va_rf (s1)] := by
  have h := hh
  unfold wj_X5_owner_30 at h
  refine zvx_cv X hT (by omega) (by omega) ((zrx_Vl X (As := [.int (s0)]) (rest := []) h (fun a h => wk_X5_takes l h) (zk_l1 ⟨_, rfl, cwV 1 X.hts (lw_V q1038 q1039 q1040 q115 q1041) rfl rfl rfl ⟨rfl, md_X5_takes⟩ ⟨Nat.le_of_ble_eq_true rfl, Nat.le_of_ble_eq_true rfl⟩⟩) rfl rfl (zk_rs (Nat.le_of_ble_eq_true rfl)) dX5_owner_30 ⟨by first | omega | (dsimp only; omega), by first | omega | (dsimp only; omega)⟩)) (fun P30 h => ?_)
  refine zv_aload_n X 0 dX5_owner_33 rfl ?_
  refine zv_getf_r X fo_q1010 dX5_owner_34 h (fun v34 h => ?_)
  refine zv_astore_n X (i := 1) (L' := [(1, va_rf (v34)), (0, va_rf (a0))]) dX5_owner_37 rfl (by decide) (by simp [zk_s1, zk_s2, zk_rc, zk_ic, zk_jc]) ?_
  refine zv_aload_n X 1 dX5_owner_38 rfl ?_
  refine zv_aload_n X 1 dX5_owner_39 rfl ?_
  refine zv_getf_i X fo_q1009 dX5_owner_40 h (fun v40 h => ?_)
  refine zv_iconst X (v := 2) dX5_owner_43 rfl ?_
  refine zv_icmp_ne X (tgt := 65) dX5_owner_44 (by decide) h (fun h => ?_) (fun h => ?_)
  · refine zv_sub (L' := [(0, va_rf (a0)), (1, va_rf (v34))]) [1, 0] rfl ?_
    refine zv_widen (c2 := 4) (s2 := 144) (by first | omega | (dsimp only; omega)) (by first | omega | (dsimp only; omega)) ?_
    exact kj_X5_owner_65 X hT  h
  · refine zv_aload_n X 1 dX5_owner_47 rfl ?_
    refine zv_getf_r X fo_q1005 dX5_owner_48 h (fun v48 h => ?_)
    refine zv_getf_r X fo_q193 dX5_owner_51 h (fun v51 h => ?_)
    refine zv_aload_n X 0 dX5_owner_54 rfl ?_
    refine zv_ciR ((zr_Vl X (As := [va_rf (v34)]) (rest := [va_rf (a0)]) h (fun a h => wk_J2_contains l h) (zk_l1 ⟨_, rfl, cwV 1 X.hts (lw_V q1122 q1123 q1124 q106 q1125) rfl rfl rfl ⟨rfl, md_J2_contains⟩ ⟨Nat.le_of_ble_eq_true rfl, Nat.le_of_ble_eq_true rfl⟩⟩) rfl rfl (zk_rs (Nat.le_of_ble_eq_true rfl)) dX5_owner_55 ⟨by first | omega | (dsimp only; omega), by first | omega | (dsimp only; omega)⟩)) (fun v55 h => ?_)
    refine zv_if_ne X (tgt := 65) dX5_owner_58 (by decide) h (fun h => ?_) (fun h => ?_)
    · refine zv_sub (L' := [(0, va_rf (a0)), (1, va_rf (v34))]) [1, 0] rfl ?_
      refine zv_widen (c2 := 4) (s2 := 144) (by first | omega | (dsimp only; omega)) (by first | omega | (dsimp only; omega)) ?_
      exact kj_X5_owner_65 X hT  h
    · refine zv_iconst X (v := 1) dX5_owner_61 rfl ?_
      refine zv_goto X (tgt := 66) dX5_owner_62 (by decide) ?_
      refine zv_sub (L' := [(0, va_rf (a0)), (1, va_rf (v34))]) [1, 0] rfl ?_
      refine zv_widen (c2 := 4) (s2 := 144) (by first | omega | (dsimp only; omega)) (by first | omega | (dsimp only; omega)) ?_
      exact kj_X5_owner_66 X hT  h
theorem kj_X5_owner_29 {p : Program} {l : Launch} {e : Env} {s : State} {m : MethodId} {args : Array Value} {below : List Frame} {meth : Method} {c : Code} {D : zk_G} {g : zk_M} {b0 : Nat} (X : zk_X p s m args meth c D g b0 cX5_owner 2 "LandFolio$Reader" "owner" none) (hT : ∀ x ∈ c.exceptionTable.toList, False) {post : zk_H → Prop} {px : Nat → zk_H → Prop}  {a0 : Option Nat} {s0 : Option Nat} {P : zk_H}    (hh : wj_X5_owner_29 g post px a0 s0 P) : zV p l e ({ frames := 9, cells := 13, slots := 528, locals := 213 } : Room) s m args below meth c D b0 2 (0) (0) (zx_MQ below (va_Qv post (zk_B D b0) (zk_A b0)) (zx_X px (zx_B D b0) (zk_A b0)) args s 13 528 (zk_A b0)) P 29 [(0, va_rf (a0))] [va_rf (s0)] := by
  have h := hh
  unfold wj_X5_owner_29 at h
  refine zv_iconst X (v := 0) dX5_owner_29 rfl ?_
  refine zv_widen (c2 := 0) (s2 := 0) (by first | omega | (dsimp only; omega)) (by first | omega | (dsimp only; omega)) ?_
  exact kj_X5_owner_30 X hT  h
theorem md_X5_owner : yX5_owner.cls ≠ "java/lang/invoke/MethodHandle" ∧ yX5_owner.cls ≠ "java/lang/invoke/VarHandle" ∧ (parseMethodDescriptor yX5_owner.desc).map (fun d => d.parameters.length) = some 0 := by decide +kernel
theorem wk_X5_owner (l : Launch) {D : zk_G} {g : zk_M} {b0 : Nat} {post : zk_H → Prop} {px : Nat → zk_H → Prop} {this : Nat} {P : zk_H} (hh : wp_X5_owner g post px this P) : zx_Met l yX5_owner (ws_ yX5_owner cX5_owner 2 none) ({ frames := 9, cells := 13, slots := 528, locals := 213 } : Room) (va_Pc [.ref this] (zk_pre D g b0 P)) (va_Qv post (zk_B D b0) (zk_A b0)) (zx_X px (zx_B D b0) (zk_A b0)) 13 528 (zk_A b0) := by
  refine zx_enter "LandFolio$Reader" "owner" rfl rfl (by decide) [.ref this] (Nat.le_of_ble_eq_true rfl) ?_
  intro p e s m args below meth c X hT
  refine zk_at0 (L' := [(0, va_rf (some this))]) (rfl) ?_
  have h := hh
  unfold wp_X5_owner at h
  refine zv_aload_n X 0 dX5_owner_0 rfl ?_
  refine zv_aload_n X 0 dX5_owner_1 rfl ?_
  refine zv_ldcS X (i := 13) rfl dX5_owner_2 ?_
  refine zv_ciR ((zr_Vl X (As := [va_rf (some (g 4))]) (rest := [va_rf (some this)]) h (fun a h => wk_X5_isKey l h) (zk_l1 ⟨_, rfl, cwV 1 X.hts (lw_V q1033 q1035 qs14 q115 q1036) rfl rfl rfl ⟨rfl, md_X5_isKey⟩ ⟨Nat.le_of_ble_eq_true rfl, Nat.le_of_ble_eq_true rfl⟩⟩) rfl rfl (zk_rs (Nat.le_of_ble_eq_true rfl)) dX5_owner_4 ⟨by first | omega | (dsimp only; omega), by first | omega | (dsimp only; omega)⟩)) (fun v4 h => ?_)
  refine zv_if_eq X (tgt := 29) dX5_owner_7 (by decide) h (fun h => ?_) (fun h => ?_)
  · refine zv_widen (c2 := 0) (s2 := 0) (by first | omega | (dsimp only; omega)) (by first | omega | (dsimp only; omega)) ?_
    exact kj_X5_owner_29 X hT  h
  · refine zv_aload_n X 0 dX5_owner_10 rfl ?_
    refine zv_getf_r X fo_q1005 dX5_owner_11 h (fun v11 h => ?_)
    refine zv_getf_r X fo_q193 dX5_owner_14 h (fun v14 h => ?_)
    refine zv_ciR ((zr_Vl X (As := []) (rest := [va_rf (some this)]) h (fun a h => wk_J2_size l h) (zk_l1 ⟨_, rfl, cwV 0 X.hts (lw_V q1121 q362 q363 q106 q364) rfl rfl rfl ⟨rfl, md_J2_size⟩ ⟨Nat.le_of_ble_eq_true rfl, Nat.le_of_ble_eq_true rfl⟩⟩) rfl rfl (zk_rs (Nat.le_of_ble_eq_true rfl)) dX5_owner_17 ⟨by first | omega | (dsimp only; omega), by first | omega | (dsimp only; omega)⟩)) (fun v17 h => ?_)
    refine zv_bipush X (v := 6) dX5_owner_20 rfl ?_
    refine zv_icmp_ge X (tgt := 29) dX5_owner_22 (by decide) h (fun h => ?_) (fun h => ?_)
    · refine zv_widen (c2 := 0) (s2 := 0) (by first | omega | (dsimp only; omega)) (by first | omega | (dsimp only; omega)) ?_
      exact kj_X5_owner_29 X hT  h
    · refine zv_iconst X (v := 1) dX5_owner_25 rfl ?_
      refine zv_goto X (tgt := 30) dX5_owner_26 (by decide) ?_
      refine zv_widen (c2 := 0) (s2 := 0) (by first | omega | (dsimp only; omega)) (by first | omega | (dsimp only; omega)) ?_
      exact kj_X5_owner_30 X hT  h
theorem kj_X5_live_40 {p : Program} {l : Launch} {e : Env} {s : State} {m : MethodId} {args : Array Value} {below : List Frame} {meth : Method} {c : Code} {D : zk_G} {g : zk_M} {b0 : Nat} (X : zk_X p s m args meth c D g b0 cX5_live 1 "LandFolio$Reader" "live" (some Jvm.ClassFile.FieldType.int)) (hT : ∀ x ∈ c.exceptionTable.toList, False) {post : Int32 → zk_H → Prop} {px : Nat → zk_H → Prop}  {s0 : Int32} {s1 : Option Nat} {P : zk_H}    (hh : wj_X5_live_40 g post px s0 s1 P) : zV p l e ({ frames := 10, cells := 4, slots := 144, locals := 235 } : Room) s m args below meth c D b0 1 (0) (0) (zx_MQ below (va_Qi post (zk_B D b0) (zk_A b0)) (zx_X px (zx_B D b0) (zk_A b0)) args s 4 144 (zk_A b0)) P 40 [] [.int (s0), va_rf (s1)] := by
  have h := hh
  unfold wj_X5_live_40 at h
  refine zvx_ci X hT (by omega) (by omega) ((zrx_Vl X (As := [.int (s0)]) (rest := []) h (fun a h => wk_X5_fits l h) (zk_l1 ⟨_, rfl, cwV 1 X.hts (lw_V q1110 q1112 qs17 q115 q1113) rfl rfl rfl ⟨rfl, md_X5_fits⟩ ⟨Nat.le_of_ble_eq_true rfl, Nat.le_of_ble_eq_true rfl⟩⟩) rfl rfl (zk_rs (Nat.le_of_ble_eq_true rfl)) dX5_live_40 ⟨by first | omega | (dsimp only; omega), by first | omega | (dsimp only; omega)⟩)) (fun v40 P40 h => ?_)
  exact zvx_ret (zv_iret X rfl (by first | omega | (dsimp only; omega)) (by first | omega | (dsimp only; omega)) dX5_live_43 h)
theorem kj_X5_live_39 {p : Program} {l : Launch} {e : Env} {s : State} {m : MethodId} {args : Array Value} {below : List Frame} {meth : Method} {c : Code} {D : zk_G} {g : zk_M} {b0 : Nat} (X : zk_X p s m args meth c D g b0 cX5_live 1 "LandFolio$Reader" "live" (some Jvm.ClassFile.FieldType.int)) (hT : ∀ x ∈ c.exceptionTable.toList, False) {post : Int32 → zk_H → Prop} {px : Nat → zk_H → Prop}  {s0 : Option Nat} {P : zk_H}    (hh : wj_X5_live_39 g post px s0 P) : zV p l e ({ frames := 10, cells := 4, slots := 144, locals := 235 } : Room) s m args below meth c D b0 1 (0) (0) (zx_MQ below (va_Qi post (zk_B D b0) (zk_A b0)) (zx_X px (zx_B D b0) (zk_A b0)) args s 4 144 (zk_A b0)) P 39 [] [va_rf (s0)] := by
  have h := hh
  unfold wj_X5_live_39 at h
  refine zv_iconst X (v := 0) dX5_live_39 rfl ?_
  refine zv_widen (c2 := 0) (s2 := 0) (by first | omega | (dsimp only; omega)) (by first | omega | (dsimp only; omega)) ?_
  exact kj_X5_live_40 X hT  h
theorem md_X5_live : yX5_live.cls ≠ "java/lang/invoke/MethodHandle" ∧ yX5_live.cls ≠ "java/lang/invoke/VarHandle" ∧ (parseMethodDescriptor yX5_live.desc).map (fun d => d.parameters.length) = some 0 := by decide +kernel
theorem wk_X5_live (l : Launch) {D : zk_G} {g : zk_M} {b0 : Nat} {post : Int32 → zk_H → Prop} {px : Nat → zk_H → Prop} {this : Nat} {P : zk_H} (hh : wp_X5_live g post px this P) : zx_Met l yX5_live (ws_ yX5_live cX5_live 1 (some Jvm.ClassFile.FieldType.int)) ({ frames := 10, cells := 4, slots := 144, locals := 235 } : Room) (va_Pc [.ref this] (zk_pre D g b0 P)) (va_Qi post (zk_B D b0) (zk_A b0)) (zx_X px (zx_B D b0) (zk_A b0)) 4 144 (zk_A b0) := by
  refine zx_enter "LandFolio$Reader" "live" rfl rfl (by decide) [.ref this] (Nat.le_of_ble_eq_true rfl) ?_
  intro p e s m args below meth c X hT
  refine zk_at0 (L' := [(0, va_rf (some this))]) (rfl) ?_
  have h := hh
  unfold wp_X5_live at h
  refine zv_aload_n X 0 dX5_live_0 rfl ?_
  refine zv_aload_n X 0 dX5_live_1 rfl ?_
  refine zv_getf_i X fo_q1011 dX5_live_2 h (fun v2 h => ?_)
  refine zv_aload_n X 0 dX5_live_5 rfl ?_
  refine zv_getf_r X fo_q1005 dX5_live_6 h (fun v6 h => ?_)
  refine zv_getf_r X fo_q196 dX5_live_9 h (fun v9 h => ?_)
  refine zv_ciR ((zr_Vl X (As := []) (rest := [.int (v2), va_rf (some this)]) h (fun a h => wk_J2_size l h) (zk_l1 ⟨_, rfl, cwV 0 X.hts (lw_V q1121 q362 q363 q106 q364) rfl rfl rfl ⟨rfl, md_J2_size⟩ ⟨Nat.le_of_ble_eq_true rfl, Nat.le_of_ble_eq_true rfl⟩⟩) rfl rfl (zk_rs (Nat.le_of_ble_eq_true rfl)) dX5_live_12 ⟨by first | omega | (dsimp only; omega), by first | omega | (dsimp only; omega)⟩)) (fun v12 h => ?_)
  refine zv_icmp_ge X (tgt := 39) dX5_live_15 (by decide) h (fun h => ?_) (fun h => ?_)
  · refine zv_sub (L' := []) [] rfl ?_
    refine zv_widen (c2 := 0) (s2 := 0) (by first | omega | (dsimp only; omega)) (by first | omega | (dsimp only; omega)) ?_
    exact kj_X5_live_39 X hT  h
  · refine zv_aload_n X 0 dX5_live_18 rfl ?_
    refine zv_getf_r X fo_q1005 dX5_live_19 h (fun v19 h => ?_)
    refine zv_aload_n X 0 dX5_live_22 rfl ?_
    refine zv_getf_i X fo_q1011 dX5_live_23 h (fun v23 h => ?_)
    refine zv_cqR ((zr_Vl X (As := [.int (v23)]) (rest := [va_rf (some this)]) h (fun a h => wk_X1_parcel l h) (zk_l1 ⟨_, rfl, cwV 1 X.hts (lw_V q1175 q502 q503 q103 q504) rfl rfl rfl ⟨rfl, md_X1_parcel⟩ ⟨Nat.le_of_ble_eq_true rfl, Nat.le_of_ble_eq_true rfl⟩⟩) rfl rfl (zk_rs (Nat.le_of_ble_eq_true rfl)) dX5_live_26 ⟨by first | omega | (dsimp only; omega), by first | omega | (dsimp only; omega)⟩)) (fun v26 h => ?_)
    refine zv_ciR ((zr_Vl X (As := []) (rest := [va_rf (some this)]) h (fun a h => wk_X2_isLive l h) (zk_l1 ⟨_, rfl, cwV 0 X.hts (lw_V q1176 q1177 q1178 q111 q1179) rfl rfl rfl ⟨rfl, md_X2_isLive⟩ ⟨Nat.le_of_ble_eq_true rfl, Nat.le_of_ble_eq_true rfl⟩⟩) rfl rfl (zk_rs (Nat.le_of_ble_eq_true rfl)) dX5_live_29 ⟨by first | omega | (dsimp only; omega), by first | omega | (dsimp only; omega)⟩)) (fun v29 h => ?_)
    refine zv_if_eq X (tgt := 39) dX5_live_32 (by decide) h (fun h => ?_) (fun h => ?_)
    · refine zv_sub (L' := []) [] rfl ?_
      refine zv_widen (c2 := 0) (s2 := 0) (by first | omega | (dsimp only; omega)) (by first | omega | (dsimp only; omega)) ?_
      exact kj_X5_live_39 X hT  h
    · refine zv_iconst X (v := 1) dX5_live_35 rfl ?_
      refine zv_goto X (tgt := 40) dX5_live_36 (by decide) ?_
      refine zv_sub (L' := []) [] rfl ?_
      refine zv_widen (c2 := 0) (s2 := 0) (by first | omega | (dsimp only; omega)) (by first | omega | (dsimp only; omega)) ?_
      exact kj_X5_live_40 X hT  h
theorem kj_X5_path_120 {p : Program} {l : Launch} {e : Env} {s : State} {m : MethodId} {args : Array Value} {below : List Frame} {meth : Method} {c : Code} {D : zk_G} {g : zk_M} {b0 : Nat} (X : zk_X p s m args meth c D g b0 cX5_path 5 "LandFolio$Reader" "path" none) (hT : ∀ x ∈ c.exceptionTable.toList, False) {post : zk_H → Prop} {px : Nat → zk_H → Prop}  {a0 : Option Nat} {a1 : Int32} {a3 : Int32} {a4 : Int32} {s0 : Int32} {s1 : Option Nat} {P : zk_H}    (hh : wj_X5_path_120 g post px a0 a1 a3 a4 s0 s1 P) : zV p l e ({ frames := 11, cells := 24, slots := 826, locals := 257 } : Room) s m args below meth c D b0 5 (16) (576) (zx_MQ below (va_Qv post (zk_B D b0) (zk_A b0)) (zx_X px (zx_B D b0) (zk_A b0)) args s 24 826 (zk_A b0)) P 120 [(0, va_rf (a0)), (1, .int (a1)), (3, .int (a3)), (4, .int (a4))] [.int (s0), va_rf (s1)] := by
  have h := hh
  unfold wj_X5_path_120 at h
  refine zvx_cv X hT (by omega) (by omega) ((zrx_Vl X (As := [.int (s0)]) (rest := []) h (fun a h => wk_X5_takes l h) (zk_l1 ⟨_, rfl, cwV 1 X.hts (lw_V q1038 q1039 q1040 q115 q1041) rfl rfl rfl ⟨rfl, md_X5_takes⟩ ⟨Nat.le_of_ble_eq_true rfl, Nat.le_of_ble_eq_true rfl⟩⟩) rfl rfl (zk_rs (Nat.le_of_ble_eq_true rfl)) dX5_path_120 ⟨by first | omega | (dsimp only; omega), by first | omega | (dsimp only; omega)⟩)) (fun P120 h => ?_)
  refine zv_aload_n X 0 dX5_path_123 rfl ?_
  refine zv_getf_r X fo_q1005 dX5_path_124 h (fun v124 h => ?_)
  refine zv_new X zk_nc8 q1295 (by first | omega | (dsimp only; omega)) (by first | omega | (dsimp only; omega)) dX5_path_127 h (fun v127 P127 h => ?_)
  refine zv_dup X dX5_path_130 (zk_rc _) ?_
  refine zv_aload_n X 0 dX5_path_131 rfl ?_
  refine zv_getf_r X fo_q1005 dX5_path_132 h (fun v132 h => ?_)
  refine zv_getf_r X fo_q202 dX5_path_135 h (fun v135 h => ?_)
  refine zv_ciR ((zr_Vl X (As := []) (rest := [va_rf (some v127), va_rf (some v127), va_rf (v124)]) h (fun a h => wk_J2_size l h) (zk_l1 ⟨_, rfl, cwV 0 X.hts (lw_V q1121 q362 q363 q106 q364) rfl rfl rfl ⟨rfl, md_J2_size⟩ ⟨Nat.le_of_ble_eq_true rfl, Nat.le_of_ble_eq_true rfl⟩⟩) rfl rfl (zk_rs (Nat.le_of_ble_eq_true rfl)) dX5_path_138 ⟨by first | omega | (dsimp only; omega), by first | omega | (dsimp only; omega)⟩)) (fun v138 h => ?_)
  refine zv_iconst X (v := 0) dX5_path_141 rfl ?_
  refine zv_iload_n X 2 dX5_path_142 rfl ?_
  refine zv_iload X 3 dX5_path_143 rfl ?_
  refine zv_cv ((zr_I X (As := [.int (v138), .int (0), .int (a3), .int (a4)]) (rest := [va_rf (some v127), va_rf (v124)]) (wk_X9_init l h) (cwI 4 X.hts (lw_meth q628) rfl rfl rfl (X.w q129) (X.w q1296) (X.w q627) rfl md_X9_init ⟨Nat.le_of_ble_eq_true rfl, Nat.le_of_ble_eq_true rfl⟩) rfl rfl (zk_rs (Nat.le_of_ble_eq_true rfl)) dX5_path_145 ⟨by first | omega | (dsimp only; omega), by first | omega | (dsimp only; omega)⟩)) (fun P145 h => ?_)
  refine zv_iload_n X 1 dX5_path_148 rfl ?_
  refine zv_cv ((zr_Vl X (As := [va_rf (some v127), .int (a1)]) (rest := []) h (fun a h => wk_X1_burdens l h) (zk_l1 ⟨_, rfl, cwV 2 X.hts (lw_V q1277 q1278 q1279 q103 q1280) rfl rfl rfl ⟨rfl, md_X1_burdens⟩ ⟨Nat.le_of_ble_eq_true rfl, Nat.le_of_ble_eq_true rfl⟩⟩) rfl rfl (zk_rs (Nat.le_of_ble_eq_true rfl)) dX5_path_149 ⟨by first | omega | (dsimp only; omega), by first | omega | (dsimp only; omega)⟩)) (fun P149 h => ?_)
  exact zvx_ret (zv_vret X rfl (by first | omega | (dsimp only; omega)) (by first | omega | (dsimp only; omega)) dX5_path_152 h)
theorem kj_X5_path_101 {p : Program} {l : Launch} {e : Env} {s : State} {m : MethodId} {args : Array Value} {below : List Frame} {meth : Method} {c : Code} {D : zk_G} {g : zk_M} {b0 : Nat} (X : zk_X p s m args meth c D g b0 cX5_path 5 "LandFolio$Reader" "path" none) (hT : ∀ x ∈ c.exceptionTable.toList, False) {post : zk_H → Prop} {px : Nat → zk_H → Prop}  {a0 : Option Nat} {a1 : Int32} {a3 : Int32} {s0 : Int32} {s1 : Option Nat} {P : zk_H}    (hh : wj_X5_path_101 g post px a0 a1 a3 s0 s1 P) : zV p l e ({ frames := 11, cells := 24, slots := 826, locals := 257 } : Room) s m args below meth c D b0 5 (12) (432) (zx_MQ below (va_Qv post (zk_B D b0) (zk_A b0)) (zx_X px (zx_B D b0) (zk_A b0)) args s 24 826 (zk_A b0)) P 101 [(0, va_rf (a0)), (1, .int (a1)), (3, .int (a3))] [.int (s0), va_rf (s1)] := by
  have h := hh
  unfold wj_X5_path_101 at h
  refine zvx_ci X hT (by omega) (by omega) ((zrx_Vl X (As := [.int (s0)]) (rest := []) h (fun a h => wk_X5_fits l h) (zk_l1 ⟨_, rfl, cwV 1 X.hts (lw_V q1110 q1112 qs17 q115 q1113) rfl rfl rfl ⟨rfl, md_X5_fits⟩ ⟨Nat.le_of_ble_eq_true rfl, Nat.le_of_ble_eq_true rfl⟩⟩) rfl rfl (zk_rs (Nat.le_of_ble_eq_true rfl)) dX5_path_101 ⟨by first | omega | (dsimp only; omega), by first | omega | (dsimp only; omega)⟩)) (fun v101 P101 h => ?_)
  refine zv_istore X (L' := [(4, .int (v101)), (0, va_rf (a0)), (1, .int (a1)), (3, .int (a3))]) dX5_path_104 (by decide) rfl ?_
  refine zv_aload_n X 1 dX5_path_106 rfl ?_
  refine zv_aload_n X 1 dX5_path_107 rfl ?_
  refine zv_getf_i X fo_q1009 dX5_path_108 h (fun v108 h => ?_)
  refine zv_iconst X (v := 4) dX5_path_111 rfl ?_
  refine zv_icmp_ne X (tgt := 119) dX5_path_112 (by decide) h (fun h => ?_) (fun h => ?_)
  · refine zv_iconst X (v := 0) dX5_path_119 rfl ?_
    refine zv_sub (L' := [(0, va_rf (a0)), (1, .int (a1)), (3, .int (a3)), (4, .int (v101))]) [1, 2, 3, 0] rfl ?_
    refine zv_widen (c2 := 16) (s2 := 576) (by first | omega | (dsimp only; omega)) (by first | omega | (dsimp only; omega)) ?_
    exact kj_X5_path_120 X hT  h
  · refine zv_iconst X (v := 1) dX5_path_115 rfl ?_
    refine zv_goto X (tgt := 120) dX5_path_116 (by decide) ?_
    refine zv_sub (L' := [(0, va_rf (a0)), (1, .int (a1)), (3, .int (a3)), (4, .int (v101))]) [1, 2, 3, 0] rfl ?_
    refine zv_widen (c2 := 16) (s2 := 576) (by first | omega | (dsimp only; omega)) (by first | omega | (dsimp only; omega)) ?_
    exact kj_X5_path_120 X hT  h
theorem kj_X5_path_100 {p : Program} {l : Launch} {e : Env} {s : State} {m : MethodId} {args : Array Value} {below : List Frame} {meth : Method} {c : Code} {D : zk_G} {g : zk_M} {b0 : Nat} (X : zk_X p s m args meth c D g b0 cX5_path 5 "LandFolio$Reader" "path" none) (hT : ∀ x ∈ c.exceptionTable.toList, False) {post : zk_H → Prop} {px : Nat → zk_H → Prop}  {a0 : Option Nat} {a1 : Int32} {a3 : Int32} {s0 : Option Nat} {P : zk_H}    (hh : wj_X5_path_100 g post px a0 a1 a3 s0 P) : zV p l e ({ frames := 11, cells := 24, slots := 826, locals := 257 } : Room) s m args below meth c D b0 5 (12) (432) (zx_MQ below (va_Qv post (zk_B D b0) (zk_A b0)) (zx_X px (zx_B D b0) (zk_A b0)) args s 24 826 (zk_A b0)) P 100 [(0, va_rf (a0)), (1, .int (a1)), (3, .int (a3))] [va_rf (s0)] := by
  have h := hh
  unfold wj_X5_path_100 at h
  refine zv_iconst X (v := 0) dX5_path_100 rfl ?_
  refine zv_widen (c2 := 12) (s2 := 432) (by first | omega | (dsimp only; omega)) (by first | omega | (dsimp only; omega)) ?_
  exact kj_X5_path_101 X hT  h
theorem kj_X5_path_30 {p : Program} {l : Launch} {e : Env} {s : State} {m : MethodId} {args : Array Value} {below : List Frame} {meth : Method} {c : Code} {D : zk_G} {g : zk_M} {b0 : Nat} (X : zk_X p s m args meth c D g b0 cX5_path 5 "LandFolio$Reader" "path" none) (hT : ∀ x ∈ c.exceptionTable.toList, False) {post : zk_H → Prop} {px : Nat → zk_H → Prop}  {a0 : Option Nat} {s0 : Int32} {s1 : Option Nat} {P : zk_H}    (hh : wj_X5_path_30 g post px a0 s0 s1 P) : zV p l e ({ frames := 11, cells := 24, slots := 826, locals := 257 } : Room) s m args below meth c D b0 5 (0) (0) (zx_MQ below (va_Qv post (zk_B D b0) (zk_A b0)) (zx_X px (zx_B D b0) (zk_A b0)) args s 24 826 (zk_A b0)) P 30 [(0, va_rf (a0))] [.int (s0), va_rf (s1)] := by
  have h := hh
  unfold wj_X5_path_30 at h
  refine zvx_cv X hT (by omega) (by omega) ((zrx_Vl X (As := [.int (s0)]) (rest := []) h (fun a h => wk_X5_takes l h) (zk_l1 ⟨_, rfl, cwV 1 X.hts (lw_V q1038 q1039 q1040 q115 q1041) rfl rfl rfl ⟨rfl, md_X5_takes⟩ ⟨Nat.le_of_ble_eq_true rfl, Nat.le_of_ble_eq_true rfl⟩⟩) rfl rfl (zk_rs (Nat.le_of_ble_eq_true rfl)) dX5_path_30 ⟨by first | omega | (dsimp only; omega), by first | omega | (dsimp only; omega)⟩)) (fun P30 h => ?_)
  refine zv_aload_n X 0 dX5_path_33 rfl ?_
  refine zvx_ci X hT (by omega) (by omega) ((zrx_Vl X (As := []) (rest := []) h (fun a h => wk_X5_live l h) (zk_l1 ⟨_, rfl, cwV 0 X.hts (lw_V q1171 q1173 qs20 q115 q1174) rfl rfl rfl ⟨rfl, md_X5_live⟩ ⟨Nat.le_of_ble_eq_true rfl, Nat.le_of_ble_eq_true rfl⟩⟩) rfl rfl (zk_rs (Nat.le_of_ble_eq_true rfl)) dX5_path_34 ⟨by first | omega | (dsimp only; omega), by first | omega | (dsimp only; omega)⟩)) (fun v34 P34 h => ?_)
  refine zv_istore_n X (i := 1) (L' := [(1, .int (v34)), (0, va_rf (a0))]) dX5_path_37 rfl (by decide) (by simp [zk_s1, zk_s2, zk_rc, zk_ic, zk_jc]) ?_
  refine zv_aload_n X 1 dX5_path_38 rfl ?_
  refine zv_getf_r X fo_q1005 dX5_path_39 h (fun v39 h => ?_)
  refine zv_iload_n X 0 dX5_path_42 rfl ?_
  refine zv_cqR ((zr_Vl X (As := [.int (v34)]) (rest := []) h (fun a h => wk_X1_parcel l h) (zk_l1 ⟨_, rfl, cwV 1 X.hts (lw_V q1175 q502 q503 q103 q504) rfl rfl rfl ⟨rfl, md_X1_parcel⟩ ⟨Nat.le_of_ble_eq_true rfl, Nat.le_of_ble_eq_true rfl⟩⟩) rfl rfl (zk_rs (Nat.le_of_ble_eq_true rfl)) dX5_path_43 ⟨by first | omega | (dsimp only; omega), by first | omega | (dsimp only; omega)⟩)) (fun v43 h => ?_)
  refine zv_astore_n X (i := 2) (L' := [(2, va_rf (v43)), (1, .int (v34)), (0, va_rf (a0))]) dX5_path_46 rfl (by decide) rfl ?_
  refine zv_aload_n X 2 dX5_path_47 rfl ?_
  refine zv_aload_n X 0 dX5_path_48 rfl ?_
  refine zv_getf_i X fo_q307 dX5_path_49 h (fun v49 h => ?_)
  refine zv_aload_n X 0 dX5_path_52 rfl ?_
  refine zv_getf_i X fo_q307 dX5_path_53 h (fun v53 h => ?_)
  refine zv_aload_n X 0 dX5_path_56 rfl ?_
  refine zv_getf_i X fo_q315 dX5_path_57 h (fun v57 h => ?_)
  refine zv_iadd X dX5_path_60 ?_
  refine zv_iconst X (v := 1) dX5_path_61 rfl ?_
  refine zv_isub X dX5_path_62 ?_
  refine zvx_ci X hT (by omega) (by omega) ((zrx_Vl X (As := [.int (v49), .int ((v53 + v57) - 1)]) (rest := []) h (fun a h => wk_X5_upTo l h) (zk_l1 ⟨_, rfl, cwV 2 X.hts (lw_V q1106 q1108 qs16 q115 q1109) rfl rfl rfl ⟨rfl, md_X5_upTo⟩ ⟨Nat.le_of_ble_eq_true rfl, Nat.le_of_ble_eq_true rfl⟩⟩) rfl rfl (zk_rs (Nat.le_of_ble_eq_true rfl)) dX5_path_63 ⟨by first | omega | (dsimp only; omega), by first | omega | (dsimp only; omega)⟩)) (fun v63 P63 h => ?_)
  refine zv_istore_n X (i := 3) (L' := [(3, .int (v63)), (2, va_rf (v43)), (1, .int (v34)), (0, va_rf (a0))]) dX5_path_66 rfl (by decide) (by simp [zk_s1, zk_s2, zk_rc, zk_ic, zk_jc]) ?_
  refine zv_aload_n X 3 dX5_path_67 rfl ?_
  refine zv_aload_n X 1 dX5_path_68 rfl ?_
  refine zv_iload_n X 0 dX5_path_69 rfl ?_
  refine zv_aload_n X 3 dX5_path_70 rfl ?_
  refine zv_getf_i X fo_q1011 dX5_path_71 h (fun v71 h => ?_)
  refine zv_ciR ((zr_Vl X (As := [.int (v63), .int (v71)]) (rest := [va_rf (a0)]) h (fun a h => wk_X2_has l h) (zk_l1 ⟨_, rfl, cwV 2 X.hts (lw_V q1286 q1221 q1222 q111 q1223) rfl rfl rfl ⟨rfl, md_X2_has⟩ ⟨Nat.le_of_ble_eq_true rfl, Nat.le_of_ble_eq_true rfl⟩⟩) rfl rfl (zk_rs (Nat.le_of_ble_eq_true rfl)) dX5_path_74 ⟨by first | omega | (dsimp only; omega), by first | omega | (dsimp only; omega)⟩)) (fun v74 h => ?_)
  refine zv_if_eq X (tgt := 100) dX5_path_77 (by decide) h (fun h => ?_) (fun h => ?_)
  · refine zv_sub (L' := [(0, va_rf (a0)), (1, .int (v34)), (3, .int (v63))]) [3, 2, 0] rfl ?_
    refine zv_widen (c2 := 12) (s2 := 432) (by first | omega | (dsimp only; omega)) (by first | omega | (dsimp only; omega)) ?_
    exact kj_X5_path_100 X hT  h
  · refine zv_aload_n X 3 dX5_path_80 rfl ?_
    refine zv_getf_r X fo_q1005 dX5_path_81 h (fun v81 h => ?_)
    refine zv_iload_n X 2 dX5_path_84 rfl ?_
    refine zv_iload_n X 0 dX5_path_85 rfl ?_
    refine zv_aload_n X 3 dX5_path_86 rfl ?_
    refine zv_getf_i X fo_q1011 dX5_path_87 h (fun v87 h => ?_)
    refine zv_ciR ((zr_Vl X (As := [.int (v34), .int (v63), .int (v87)]) (rest := [va_rf (a0)]) h (fun a h => wk_X1_hasPath l h) (zk_l1 ⟨_, rfl, cwV 3 X.hts (lw_V q1287 q1288 q1289 q103 q1290) rfl rfl rfl ⟨rfl, md_X1_hasPath⟩ ⟨Nat.le_of_ble_eq_true rfl, Nat.le_of_ble_eq_true rfl⟩⟩) rfl rfl (zk_rs (Nat.le_of_ble_eq_true rfl)) dX5_path_90 ⟨by first | omega | (dsimp only; omega), by first | omega | (dsimp only; omega)⟩)) (fun v90 h => ?_)
    refine zv_if_ne X (tgt := 100) dX5_path_93 (by decide) h (fun h => ?_) (fun h => ?_)
    · refine zv_sub (L' := [(0, va_rf (a0)), (1, .int (v34)), (3, .int (v63))]) [3, 2, 0] rfl ?_
      refine zv_widen (c2 := 12) (s2 := 432) (by first | omega | (dsimp only; omega)) (by first | omega | (dsimp only; omega)) ?_
      exact kj_X5_path_100 X hT  h
    · refine zv_iconst X (v := 1) dX5_path_96 rfl ?_
      refine zv_goto X (tgt := 101) dX5_path_97 (by decide) ?_
      refine zv_sub (L' := [(0, va_rf (a0)), (1, .int (v34)), (3, .int (v63))]) [3, 2, 0] rfl ?_
      refine zv_widen (c2 := 12) (s2 := 432) (by first | omega | (dsimp only; omega)) (by first | omega | (dsimp only; omega)) ?_
      exact kj_X5_path_101 X hT  h
theorem kj_X5_path_29 {p : Program} {l : Launch} {e : Env} {s : State} {m : MethodId} {args : Array Value} {below : List Frame} {meth : Method} {c : Code} {D : zk_G} {g : zk_M} {b0 : Nat} (X : zk_X p s m args meth c D g b0 cX5_path 5 "LandFolio$Reader" "path" none) (hT : ∀ x ∈ c.exceptionTable.toList, False) {post : zk_H → Prop} {px : Nat → zk_H → Prop}  {a0 : Option Nat} {s0 : Option Nat} {P : zk_H}    (hh : wj_X5_path_29 g post px a0 s0 P) : zV p l e ({ frames := 11, cells := 24, slots := 826, locals := 257 } : Room) s m args below meth c D b0 5 (0) (0) (zx_MQ below (va_Qv post (zk_B D b0) (zk_A b0)) (zx_X px (zx_B D b0) (zk_A b0)) args s 24 826 (zk_A b0)) P 29 [(0, va_rf (a0))] [va_rf (s0)] := by
  have h := hh
  unfold wj_X5_path_29 at h
  refine zv_iconst X (v := 0) dX5_path_29 rfl ?_
  refine zv_widen (c2 := 0) (s2 := 0) (by first | omega | (dsimp only; omega)) (by first | omega | (dsimp only; omega)) ?_
  exact kj_X5_path_30 X hT  h
theorem md_X5_path : yX5_path.cls ≠ "java/lang/invoke/MethodHandle" ∧ yX5_path.cls ≠ "java/lang/invoke/VarHandle" ∧ (parseMethodDescriptor yX5_path.desc).map (fun d => d.parameters.length) = some 0 := by decide +kernel
theorem wk_X5_path (l : Launch) {D : zk_G} {g : zk_M} {b0 : Nat} {post : zk_H → Prop} {px : Nat → zk_H → Prop} {this : Nat} {P : zk_H} (hh : wp_X5_path g post px this P) : zx_Met l yX5_path (ws_ yX5_path cX5_path 5 none) ({ frames := 11, cells := 24, slots := 826, locals := 257 } : Room) (va_Pc [.ref this] (zk_pre D g b0 P)) (va_Qv post (zk_B D b0) (zk_A b0)) (zx_X px (zx_B D b0) (zk_A b0)) 24 826 (zk_A b0) := by
  refine zx_enter "LandFolio$Reader" "path" rfl rfl (by decide) [.ref this] (Nat.le_of_ble_eq_true rfl) ?_
  intro p e s m args below meth c X hT
  refine zk_at0 (L' := [(0, va_rf (some this))]) (rfl) ?_
  have h := hh
  unfold wp_X5_path at h
  refine zv_aload_n X 0 dX5_path_0 rfl ?_
  refine zv_aload_n X 0 dX5_path_1 rfl ?_
  refine zv_ldcS X (i := 19) rfl dX5_path_2 ?_
  refine zv_ciR ((zr_Vl X (As := [va_rf (some (g 10))]) (rest := [va_rf (some this)]) h (fun a h => wk_X5_isKey l h) (zk_l1 ⟨_, rfl, cwV 1 X.hts (lw_V q1033 q1035 qs14 q115 q1036) rfl rfl rfl ⟨rfl, md_X5_isKey⟩ ⟨Nat.le_of_ble_eq_true rfl, Nat.le_of_ble_eq_true rfl⟩⟩) rfl rfl (zk_rs (Nat.le_of_ble_eq_true rfl)) dX5_path_4 ⟨by first | omega | (dsimp only; omega), by first | omega | (dsimp only; omega)⟩)) (fun v4 h => ?_)
  refine zv_if_eq X (tgt := 29) dX5_path_7 (by decide) h (fun h => ?_) (fun h => ?_)
  · refine zv_widen (c2 := 0) (s2 := 0) (by first | omega | (dsimp only; omega)) (by first | omega | (dsimp only; omega)) ?_
    exact kj_X5_path_29 X hT  h
  · refine zv_aload_n X 0 dX5_path_10 rfl ?_
    refine zv_getf_r X fo_q1005 dX5_path_11 h (fun v11 h => ?_)
    refine zv_getf_r X fo_q202 dX5_path_14 h (fun v14 h => ?_)
    refine zv_ciR ((zr_Vl X (As := []) (rest := [va_rf (some this)]) h (fun a h => wk_J2_size l h) (zk_l1 ⟨_, rfl, cwV 0 X.hts (lw_V q1121 q362 q363 q106 q364) rfl rfl rfl ⟨rfl, md_J2_size⟩ ⟨Nat.le_of_ble_eq_true rfl, Nat.le_of_ble_eq_true rfl⟩⟩) rfl rfl (zk_rs (Nat.le_of_ble_eq_true rfl)) dX5_path_17 ⟨by first | omega | (dsimp only; omega), by first | omega | (dsimp only; omega)⟩)) (fun v17 h => ?_)
    refine zv_bipush X (v := 20) dX5_path_20 rfl ?_
    refine zv_icmp_ge X (tgt := 29) dX5_path_22 (by decide) h (fun h => ?_) (fun h => ?_)
    · refine zv_widen (c2 := 0) (s2 := 0) (by first | omega | (dsimp only; omega)) (by first | omega | (dsimp only; omega)) ?_
      exact kj_X5_path_29 X hT  h
    · refine zv_iconst X (v := 1) dX5_path_25 rfl ?_
      refine zv_goto X (tgt := 30) dX5_path_26 (by decide) ?_
      refine zv_widen (c2 := 0) (s2 := 0) (by first | omega | (dsimp only; omega)) (by first | omega | (dsimp only; omega)) ?_
      exact kj_X5_path_30 X hT  h
theorem kj_X5_known_43 {p : Program} {l : Launch} {e : Env} {s : State} {m : MethodId} {args : Array Value} {below : List Frame} {meth : Method} {c : Code} {D : zk_G} {g : zk_M} {b0 : Nat} (X : zk_X p s m args meth c D g b0 cX5_known 3 "LandFolio$Reader" "known" (some Jvm.ClassFile.FieldType.int)) (hT : ∀ x ∈ c.exceptionTable.toList, False) {post : Int32 → zk_H → Prop} {px : Nat → zk_H → Prop}  {a2 : Int32} {s0 : Int32} {s1 : Option Nat} {P : zk_H}    (hh : wj_X5_known_43 g post px a2 s0 s1 P) : zV p l e ({ frames := 9, cells := 4, slots := 144, locals := 213 } : Room) s m args below meth c D b0 3 (0) (0) (zx_MQ below (va_Qi post (zk_B D b0) (zk_A b0)) (zx_X px (zx_B D b0) (zk_A b0)) args s 4 144 (zk_A b0)) P 43 [(2, .int (a2))] [.int (s0), va_rf (s1)] := by
  have h := hh
  unfold wj_X5_known_43 at h
  refine zvx_cv X hT (by omega) (by omega) ((zrx_Vl X (As := [.int (s0)]) (rest := []) h (fun a h => wk_X5_takes l h) (zk_l1 ⟨_, rfl, cwV 1 X.hts (lw_V q1038 q1039 q1040 q115 q1041) rfl rfl rfl ⟨rfl, md_X5_takes⟩ ⟨Nat.le_of_ble_eq_true rfl, Nat.le_of_ble_eq_true rfl⟩⟩) rfl rfl (zk_rs (Nat.le_of_ble_eq_true rfl)) dX5_known_43 ⟨by first | omega | (dsimp only; omega), by first | omega | (dsimp only; omega)⟩)) (fun P43 h => ?_)
  refine zv_iload_n X 0 dX5_known_46 rfl ?_
  exact zvx_ret (zv_iret X rfl (by first | omega | (dsimp only; omega)) (by first | omega | (dsimp only; omega)) dX5_known_47 h)
theorem kj_X5_known_42 {p : Program} {l : Launch} {e : Env} {s : State} {m : MethodId} {args : Array Value} {below : List Frame} {meth : Method} {c : Code} {D : zk_G} {g : zk_M} {b0 : Nat} (X : zk_X p s m args meth c D g b0 cX5_known 3 "LandFolio$Reader" "known" (some Jvm.ClassFile.FieldType.int)) (hT : ∀ x ∈ c.exceptionTable.toList, False) {post : Int32 → zk_H → Prop} {px : Nat → zk_H → Prop}  {a2 : Int32} {s0 : Option Nat} {P : zk_H}    (hh : wj_X5_known_42 g post px a2 s0 P) : zV p l e ({ frames := 9, cells := 4, slots := 144, locals := 213 } : Room) s m args below meth c D b0 3 (0) (0) (zx_MQ below (va_Qi post (zk_B D b0) (zk_A b0)) (zx_X px (zx_B D b0) (zk_A b0)) args s 4 144 (zk_A b0)) P 42 [(2, .int (a2))] [va_rf (s0)] := by
  have h := hh
  unfold wj_X5_known_42 at h
  refine zv_iconst X (v := 0) dX5_known_42 rfl ?_
  refine zv_widen (c2 := 0) (s2 := 0) (by first | omega | (dsimp only; omega)) (by first | omega | (dsimp only; omega)) ?_
  exact kj_X5_known_43 X hT  h
theorem kj_X5_known_27 {p : Program} {l : Launch} {e : Env} {s : State} {m : MethodId} {args : Array Value} {below : List Frame} {meth : Method} {c : Code} {D : zk_G} {g : zk_M} {b0 : Nat} (X : zk_X p s m args meth c D g b0 cX5_known 3 "LandFolio$Reader" "known" (some Jvm.ClassFile.FieldType.int)) (hT : ∀ x ∈ c.exceptionTable.toList, False) {post : Int32 → zk_H → Prop} {px : Nat → zk_H → Prop}  {a0 : Option Nat} {a1 : Int32} {s0 : Int32} {P : zk_H}    (hh : wj_X5_known_27 g post px a0 a1 s0 P) : zV p l e ({ frames := 9, cells := 4, slots := 144, locals := 213 } : Room) s m args below meth c D b0 3 (0) (0) (zx_MQ below (va_Qi post (zk_B D b0) (zk_A b0)) (zx_X px (zx_B D b0) (zk_A b0)) args s 4 144 (zk_A b0)) P 27 [(0, va_rf (a0)), (1, .int (a1))] [.int (s0)] := by
  have h := hh
  unfold wj_X5_known_27 at h
  refine zv_istore_n X (i := 2) (L' := [(2, .int (s0)), (0, va_rf (a0)), (1, .int (a1))]) dX5_known_27 rfl (by decide) rfl ?_
  refine zv_aload_n X 1 dX5_known_28 rfl ?_
  refine zv_iload_n X 0 dX5_known_29 rfl ?_
  refine zv_if_lt X (tgt := 42) dX5_known_30 (by decide) h (fun h => ?_) (fun h => ?_)
  · refine zv_sub (L' := [(2, .int (s0))]) [0] rfl ?_
    refine zv_widen (c2 := 0) (s2 := 0) (by first | omega | (dsimp only; omega)) (by first | omega | (dsimp only; omega)) ?_
    exact kj_X5_known_42 X hT  h
  · refine zv_iload_n X 0 dX5_known_33 rfl ?_
    refine zv_iload_n X 2 dX5_known_34 rfl ?_
    refine zv_icmp_eq X (tgt := 42) dX5_known_35 (by decide) h (fun h => ?_) (fun h => ?_)
    · refine zv_sub (L' := [(2, .int (s0))]) [0] rfl ?_
      refine zv_widen (c2 := 0) (s2 := 0) (by first | omega | (dsimp only; omega)) (by first | omega | (dsimp only; omega)) ?_
      exact kj_X5_known_42 X hT  h
    · refine zv_iconst X (v := 1) dX5_known_38 rfl ?_
      refine zv_goto X (tgt := 43) dX5_known_39 (by decide) ?_
      refine zv_sub (L' := [(2, .int (s0))]) [0] rfl ?_
      refine zv_widen (c2 := 0) (s2 := 0) (by first | omega | (dsimp only; omega)) (by first | omega | (dsimp only; omega)) ?_
      exact kj_X5_known_43 X hT  h
theorem md_X5_known : yX5_known.cls ≠ "java/lang/invoke/MethodHandle" ∧ yX5_known.cls ≠ "java/lang/invoke/VarHandle" ∧ (parseMethodDescriptor yX5_known.desc).map (fun d => d.parameters.length) = some 1 := by decide +kernel
theorem wk_X5_known (l : Launch) {D : zk_G} {g : zk_M} {b0 : Nat} {post : Int32 → zk_H → Prop} {px : Nat → zk_H → Prop} {this : Nat} {x1 : Int32} {P : zk_H} (hh : wp_X5_known g post px this x1 P) : zx_Met l yX5_known (ws_ yX5_known cX5_known 3 (some Jvm.ClassFile.FieldType.int)) ({ frames := 9, cells := 4, slots := 144, locals := 213 } : Room) (va_Pc [.ref this, .int (x1)] (zk_pre D g b0 P)) (va_Qi post (zk_B D b0) (zk_A b0)) (zx_X px (zx_B D b0) (zk_A b0)) 4 144 (zk_A b0) := by
  refine zx_enter "LandFolio$Reader" "known" rfl rfl (by decide) [.ref this, .int (x1)] (Nat.le_of_ble_eq_true rfl) ?_
  intro p e s m args below meth c X hT
  refine zk_at0 (L' := [(0, va_rf (some this)), (1, .int (x1))]) (rfl) ?_
  have h := hh
  unfold wp_X5_known at h
  refine zv_aload_n X 0 dX5_known_0 rfl ?_
  refine zv_getf_i X fo_q1009 dX5_known_1 h (fun v1 h => ?_)
  refine zv_iconst X (v := 2) dX5_known_4 rfl ?_
  refine zv_icmp_ne X (tgt := 25) dX5_known_5 (by decide) h (fun h => ?_) (fun h => ?_)
  · refine zv_bipush X (v := -2) dX5_known_25 rfl ?_
    refine zv_widen (c2 := 0) (s2 := 0) (by first | omega | (dsimp only; omega)) (by first | omega | (dsimp only; omega)) ?_
    exact kj_X5_known_27 X hT  h
  · refine zv_aload_n X 0 dX5_known_8 rfl ?_
    refine zv_getf_r X fo_q1005 dX5_known_9 h (fun v9 h => ?_)
    refine zv_getf_r X fo_q193 dX5_known_12 h (fun v12 h => ?_)
    refine zv_aload_n X 0 dX5_known_15 rfl ?_
    refine zv_getf_r X fo_q1010 dX5_known_16 h (fun v16 h => ?_)
    refine zv_ciR ((zr_Vl X (As := [va_rf (v16)]) (rest := []) h (fun a h => wk_J2_indexOf l h) (zk_l1 ⟨_, rfl, cwV 1 X.hts (lw_V q1255 q1127 q1128 q106 q1129) rfl rfl rfl ⟨rfl, md_J2_indexOf⟩ ⟨Nat.le_of_ble_eq_true rfl, Nat.le_of_ble_eq_true rfl⟩⟩) rfl rfl (zk_rs (Nat.le_of_ble_eq_true rfl)) dX5_known_19 ⟨by first | omega | (dsimp only; omega), by first | omega | (dsimp only; omega)⟩)) (fun v19 h => ?_)
    refine zv_goto X (tgt := 27) dX5_known_22 (by decide) ?_
    refine zv_widen (c2 := 0) (s2 := 0) (by first | omega | (dsimp only; omega)) (by first | omega | (dsimp only; omega)) ?_
    exact kj_X5_known_27 X hT  h
theorem kj_X5_debt_59 {p : Program} {l : Launch} {e : Env} {s : State} {m : MethodId} {args : Array Value} {below : List Frame} {meth : Method} {c : Code} {D : zk_G} {g : zk_M} {b0 : Nat} (X : zk_X p s m args meth c D g b0 cX5_debt 4 "LandFolio$Reader" "debt" none) (hT : ∀ x ∈ c.exceptionTable.toList, False) {post : zk_H → Prop} {px : Nat → zk_H → Prop}  {a0 : Option Nat} {a1 : Int32} {a2 : Int32} {a3 : Int32} {s0 : Int32} {s1 : Option Nat} {P : zk_H}    (hh : wj_X5_debt_59 g post px a0 a1 a2 a3 s0 s1 P) : zV p l e ({ frames := 11, cells := 24, slots := 826, locals := 257 } : Room) s m args below meth c D b0 4 (16) (576) (zx_MQ below (va_Qv post (zk_B D b0) (zk_A b0)) (zx_X px (zx_B D b0) (zk_A b0)) args s 24 826 (zk_A b0)) P 59 [(0, va_rf (a0)), (1, .int (a1)), (2, .int (a2)), (3, .int (a3))] [.int (s0), va_rf (s1)] := by
  have h := hh
  unfold wj_X5_debt_59 at h
  refine zvx_cv X hT (by omega) (by omega) ((zrx_Vl X (As := [.int (s0)]) (rest := []) h (fun a h => wk_X5_takes l h) (zk_l1 ⟨_, rfl, cwV 1 X.hts (lw_V q1038 q1039 q1040 q115 q1041) rfl rfl rfl ⟨rfl, md_X5_takes⟩ ⟨Nat.le_of_ble_eq_true rfl, Nat.le_of_ble_eq_true rfl⟩⟩) rfl rfl (zk_rs (Nat.le_of_ble_eq_true rfl)) dX5_debt_59 ⟨by first | omega | (dsimp only; omega), by first | omega | (dsimp only; omega)⟩)) (fun P59 h => ?_)
  refine zv_aload_n X 0 dX5_debt_62 rfl ?_
  refine zv_getf_r X fo_q1005 dX5_debt_63 h (fun v63 h => ?_)
  refine zv_new X zk_nc7 q1275 (by first | omega | (dsimp only; omega)) (by first | omega | (dsimp only; omega)) dX5_debt_66 h (fun v66 P66 h => ?_)
  refine zv_dup X dX5_debt_69 (zk_rc _) ?_
  refine zv_aload_n X 0 dX5_debt_70 rfl ?_
  refine zv_getf_r X fo_q1005 dX5_debt_71 h (fun v71 h => ?_)
  refine zv_getf_r X fo_q202 dX5_debt_74 h (fun v74 h => ?_)
  refine zv_ciR ((zr_Vl X (As := []) (rest := [va_rf (some v66), va_rf (some v66), va_rf (v63)]) h (fun a h => wk_J2_size l h) (zk_l1 ⟨_, rfl, cwV 0 X.hts (lw_V q1121 q362 q363 q106 q364) rfl rfl rfl ⟨rfl, md_J2_size⟩ ⟨Nat.le_of_ble_eq_true rfl, Nat.le_of_ble_eq_true rfl⟩⟩) rfl rfl (zk_rs (Nat.le_of_ble_eq_true rfl)) dX5_debt_77 ⟨by first | omega | (dsimp only; omega), by first | omega | (dsimp only; omega)⟩)) (fun v77 h => ?_)
  refine zv_iconst X (v := 0) dX5_debt_80 rfl ?_
  refine zv_iload_n X 2 dX5_debt_81 rfl ?_
  refine zv_iload_n X 3 dX5_debt_82 rfl ?_
  refine zv_cv ((zr_I X (As := [.int (v77), .int (0), .int (a2), .int (a3)]) (rest := [va_rf (some v66), va_rf (v63)]) (wk_X8_init l h) (cwI 4 X.hts (lw_meth q558) rfl rfl rfl (X.w q128) (X.w q1276) (X.w q557) rfl md_X8_init ⟨Nat.le_of_ble_eq_true rfl, Nat.le_of_ble_eq_true rfl⟩) rfl rfl (zk_rs (Nat.le_of_ble_eq_true rfl)) dX5_debt_83 ⟨by first | omega | (dsimp only; omega), by first | omega | (dsimp only; omega)⟩)) (fun P83 h => ?_)
  refine zv_iload_n X 1 dX5_debt_86 rfl ?_
  refine zv_cv ((zr_Vl X (As := [va_rf (some v66), .int (a1)]) (rest := []) h (fun a h => wk_X1_burdens l h) (zk_l1 ⟨_, rfl, cwV 2 X.hts (lw_V q1277 q1278 q1279 q103 q1280) rfl rfl rfl ⟨rfl, md_X1_burdens⟩ ⟨Nat.le_of_ble_eq_true rfl, Nat.le_of_ble_eq_true rfl⟩⟩) rfl rfl (zk_rs (Nat.le_of_ble_eq_true rfl)) dX5_debt_87 ⟨by first | omega | (dsimp only; omega), by first | omega | (dsimp only; omega)⟩)) (fun P87 h => ?_)
  exact zvx_ret (zv_vret X rfl (by first | omega | (dsimp only; omega)) (by first | omega | (dsimp only; omega)) dX5_debt_90 h)
theorem kj_X5_debt_21 {p : Program} {l : Launch} {e : Env} {s : State} {m : MethodId} {args : Array Value} {below : List Frame} {meth : Method} {c : Code} {D : zk_G} {g : zk_M} {b0 : Nat} (X : zk_X p s m args meth c D g b0 cX5_debt 4 "LandFolio$Reader" "debt" none) (hT : ∀ x ∈ c.exceptionTable.toList, False) {post : zk_H → Prop} {px : Nat → zk_H → Prop}  {a0 : Option Nat} {s0 : Int32} {s1 : Option Nat} {P : zk_H}    (hh : wj_X5_debt_21 g post px a0 s0 s1 P) : zV p l e ({ frames := 11, cells := 24, slots := 826, locals := 257 } : Room) s m args below meth c D b0 4 (0) (0) (zx_MQ below (va_Qv post (zk_B D b0) (zk_A b0)) (zx_X px (zx_B D b0) (zk_A b0)) args s 24 826 (zk_A b0)) P 21 [(0, va_rf (a0))] [.int (s0), va_rf (s1)] := by
  have h := hh
  unfold wj_X5_debt_21 at h
  refine zvx_cv X hT (by omega) (by omega) ((zrx_Vl X (As := [.int (s0)]) (rest := []) h (fun a h => wk_X5_takes l h) (zk_l1 ⟨_, rfl, cwV 1 X.hts (lw_V q1038 q1039 q1040 q115 q1041) rfl rfl rfl ⟨rfl, md_X5_takes⟩ ⟨Nat.le_of_ble_eq_true rfl, Nat.le_of_ble_eq_true rfl⟩⟩) rfl rfl (zk_rs (Nat.le_of_ble_eq_true rfl)) dX5_debt_21 ⟨by first | omega | (dsimp only; omega), by first | omega | (dsimp only; omega)⟩)) (fun P21 h => ?_)
  refine zv_aload_n X 0 dX5_debt_24 rfl ?_
  refine zvx_ci X hT (by omega) (by omega) ((zrx_Vl X (As := []) (rest := []) h (fun a h => wk_X5_live l h) (zk_l1 ⟨_, rfl, cwV 0 X.hts (lw_V q1171 q1173 qs20 q115 q1174) rfl rfl rfl ⟨rfl, md_X5_live⟩ ⟨Nat.le_of_ble_eq_true rfl, Nat.le_of_ble_eq_true rfl⟩⟩) rfl rfl (zk_rs (Nat.le_of_ble_eq_true rfl)) dX5_debt_25 ⟨by first | omega | (dsimp only; omega), by first | omega | (dsimp only; omega)⟩)) (fun v25 P25 h => ?_)
  refine zv_istore_n X (i := 1) (L' := [(1, .int (v25)), (0, va_rf (a0))]) dX5_debt_28 rfl (by decide) (by simp [zk_s1, zk_s2, zk_rc, zk_ic, zk_jc]) ?_
  refine zv_aload_n X 1 dX5_debt_29 rfl ?_
  refine zv_bipush X (v := -2) dX5_debt_30 rfl ?_
  refine zvx_ci X hT (by omega) (by omega) ((zrx_Vl X (As := [.int (-2)]) (rest := []) h (fun a h => wk_X5_known l h) (zk_l1 ⟨_, rfl, cwV 1 X.hts (lw_V q1251 q1253 qs26 q115 q1254) rfl rfl rfl ⟨rfl, md_X5_known⟩ ⟨Nat.le_of_ble_eq_true rfl, Nat.le_of_ble_eq_true rfl⟩⟩) rfl rfl (zk_rs (Nat.le_of_ble_eq_true rfl)) dX5_debt_32 ⟨by first | omega | (dsimp only; omega), by first | omega | (dsimp only; omega)⟩)) (fun v32 P32 h => ?_)
  refine zv_istore_n X (i := 2) (L' := [(2, .int (v32)), (1, .int (v25)), (0, va_rf (a0))]) dX5_debt_35 rfl (by decide) rfl ?_
  refine zv_aload_n X 2 dX5_debt_36 rfl ?_
  refine zv_iconst X (v := 1) dX5_debt_37 rfl ?_
  refine zv_sipush X (v := 9999) dX5_debt_38 rfl ?_
  refine zvx_ci X hT (by omega) (by omega) ((zrx_Vl X (As := [.int (1), .int (9999)]) (rest := []) h (fun a h => wk_X5_upTo l h) (zk_l1 ⟨_, rfl, cwV 2 X.hts (lw_V q1106 q1108 qs16 q115 q1109) rfl rfl rfl ⟨rfl, md_X5_upTo⟩ ⟨Nat.le_of_ble_eq_true rfl, Nat.le_of_ble_eq_true rfl⟩⟩) rfl rfl (zk_rs (Nat.le_of_ble_eq_true rfl)) dX5_debt_41 ⟨by first | omega | (dsimp only; omega), by first | omega | (dsimp only; omega)⟩)) (fun v41 P41 h => ?_)
  refine zv_istore_n X (i := 3) (L' := [(3, .int (v41)), (2, .int (v32)), (1, .int (v25)), (0, va_rf (a0))]) dX5_debt_44 rfl (by decide) rfl ?_
  refine zv_aload_n X 3 dX5_debt_45 rfl ?_
  refine zv_aload_n X 3 dX5_debt_46 rfl ?_
  refine zv_getf_i X fo_q1009 dX5_debt_47 h (fun v47 h => ?_)
  refine zv_iconst X (v := 4) dX5_debt_50 rfl ?_
  refine zv_icmp_ne X (tgt := 58) dX5_debt_51 (by decide) h (fun h => ?_) (fun h => ?_)
  · refine zv_iconst X (v := 0) dX5_debt_58 rfl ?_
    refine zv_sub (L' := [(0, va_rf (a0)), (1, .int (v25)), (2, .int (v32)), (3, .int (v41))]) [3, 2, 1, 0] rfl ?_
    refine zv_widen (c2 := 16) (s2 := 576) (by first | omega | (dsimp only; omega)) (by first | omega | (dsimp only; omega)) ?_
    exact kj_X5_debt_59 X hT  h
  · refine zv_iconst X (v := 1) dX5_debt_54 rfl ?_
    refine zv_goto X (tgt := 59) dX5_debt_55 (by decide) ?_
    refine zv_sub (L' := [(0, va_rf (a0)), (1, .int (v25)), (2, .int (v32)), (3, .int (v41))]) [3, 2, 1, 0] rfl ?_
    refine zv_widen (c2 := 16) (s2 := 576) (by first | omega | (dsimp only; omega)) (by first | omega | (dsimp only; omega)) ?_
    exact kj_X5_debt_59 X hT  h
theorem md_X5_debt : yX5_debt.cls ≠ "java/lang/invoke/MethodHandle" ∧ yX5_debt.cls ≠ "java/lang/invoke/VarHandle" ∧ (parseMethodDescriptor yX5_debt.desc).map (fun d => d.parameters.length) = some 0 := by decide +kernel
theorem wk_X5_debt (l : Launch) {D : zk_G} {g : zk_M} {b0 : Nat} {post : zk_H → Prop} {px : Nat → zk_H → Prop} {this : Nat} {P : zk_H} (hh : wp_X5_debt g post px this P) : zx_Met l yX5_debt (ws_ yX5_debt cX5_debt 4 none) ({ frames := 11, cells := 24, slots := 826, locals := 257 } : Room) (va_Pc [.ref this] (zk_pre D g b0 P)) (va_Qv post (zk_B D b0) (zk_A b0)) (zx_X px (zx_B D b0) (zk_A b0)) 24 826 (zk_A b0) := by
  refine zx_enter "LandFolio$Reader" "debt" rfl rfl (by decide) [.ref this] (Nat.le_of_ble_eq_true rfl) ?_
  intro p e s m args below meth c X hT
  refine zk_at0 (L' := [(0, va_rf (some this))]) (rfl) ?_
  have h := hh
  unfold wp_X5_debt at h
  refine zv_aload_n X 0 dX5_debt_0 rfl ?_
  refine zv_aload_n X 0 dX5_debt_1 rfl ?_
  refine zv_getf_r X fo_q1005 dX5_debt_2 h (fun v2 h => ?_)
  refine zv_getf_r X fo_q202 dX5_debt_5 h (fun v5 h => ?_)
  refine zv_ciR ((zr_Vl X (As := []) (rest := [va_rf (some this)]) h (fun a h => wk_J2_size l h) (zk_l1 ⟨_, rfl, cwV 0 X.hts (lw_V q1121 q362 q363 q106 q364) rfl rfl rfl ⟨rfl, md_J2_size⟩ ⟨Nat.le_of_ble_eq_true rfl, Nat.le_of_ble_eq_true rfl⟩⟩) rfl rfl (zk_rs (Nat.le_of_ble_eq_true rfl)) dX5_debt_8 ⟨by first | omega | (dsimp only; omega), by first | omega | (dsimp only; omega)⟩)) (fun v8 h => ?_)
  refine zv_bipush X (v := 20) dX5_debt_11 rfl ?_
  refine zv_icmp_ge X (tgt := 20) dX5_debt_13 (by decide) h (fun h => ?_) (fun h => ?_)
  · refine zv_iconst X (v := 0) dX5_debt_20 rfl ?_
    refine zv_widen (c2 := 0) (s2 := 0) (by first | omega | (dsimp only; omega)) (by first | omega | (dsimp only; omega)) ?_
    exact kj_X5_debt_21 X hT  h
  · refine zv_iconst X (v := 1) dX5_debt_16 rfl ?_
    refine zv_goto X (tgt := 21) dX5_debt_17 (by decide) ?_
    refine zv_widen (c2 := 0) (s2 := 0) (by first | omega | (dsimp only; omega)) (by first | omega | (dsimp only; omega)) ?_
    exact kj_X5_debt_21 X hT  h
theorem kj_X5_give_56 {p : Program} {l : Launch} {e : Env} {s : State} {m : MethodId} {args : Array Value} {below : List Frame} {meth : Method} {c : Code} {D : zk_G} {g : zk_M} {b0 : Nat} (X : zk_X p s m args meth c D g b0 cX5_give 5 "LandFolio$Reader" "give" none) (hT : ∀ x ∈ c.exceptionTable.toList, False) {post : zk_H → Prop} {px : Nat → zk_H → Prop}  {a0 : Option Nat} {a1 : Int32} {a2 : Int32} {a3 : Int32} {a4 : Int32} {s0 : Int32} {s1 : Option Nat} {P : zk_H}    (hh : wj_X5_give_56 g post px a0 a1 a2 a3 a4 s0 s1 P) : zV p l e ({ frames := 11, cells := 27, slots := 969, locals := 257 } : Room) s m args below meth c D b0 5 (20) (720) (zx_MQ below (va_Qv post (zk_B D b0) (zk_A b0)) (zx_X px (zx_B D b0) (zk_A b0)) args s 27 969 (zk_A b0)) P 56 [(0, va_rf (a0)), (1, .int (a1)), (2, .int (a2)), (3, .int (a3)), (4, .int (a4))] [.int (s0), va_rf (s1)] := by
  have h := hh
  unfold wj_X5_give_56 at h
  refine zvx_cv X hT (by omega) (by omega) ((zrx_Vl X (As := [.int (s0)]) (rest := []) h (fun a h => wk_X5_takes l h) (zk_l1 ⟨_, rfl, cwV 1 X.hts (lw_V q1038 q1039 q1040 q115 q1041) rfl rfl rfl ⟨rfl, md_X5_takes⟩ ⟨Nat.le_of_ble_eq_true rfl, Nat.le_of_ble_eq_true rfl⟩⟩) rfl rfl (zk_rs (Nat.le_of_ble_eq_true rfl)) dX5_give_56 ⟨by first | omega | (dsimp only; omega), by first | omega | (dsimp only; omega)⟩)) (fun P56 h => ?_)
  refine zv_aload_n X 0 dX5_give_59 rfl ?_
  refine zv_getf_r X fo_q1005 dX5_give_60 h (fun v60 h => ?_)
  refine zv_iload_n X 1 dX5_give_63 rfl ?_
  refine zv_iload_n X 2 dX5_give_64 rfl ?_
  refine zv_iload_n X 3 dX5_give_65 rfl ?_
  refine zv_iload X 4 dX5_give_66 rfl ?_
  refine zv_cv ((zr_Vl X (As := [.int (a1), .int (a2), .int (a3), .int (a4)]) (rest := []) h (fun a h => wk_X1_gives l h) (zk_l1 ⟨_, rfl, cwV 4 X.hts (lw_V q1257 q1258 q1259 q103 q1260) rfl rfl rfl ⟨rfl, md_X1_gives⟩ ⟨Nat.le_of_ble_eq_true rfl, Nat.le_of_ble_eq_true rfl⟩⟩) rfl rfl (zk_rs (Nat.le_of_ble_eq_true rfl)) dX5_give_68 ⟨by first | omega | (dsimp only; omega), by first | omega | (dsimp only; omega)⟩)) (fun P68 h => ?_)
  exact zvx_ret (zv_vret X rfl (by first | omega | (dsimp only; omega)) (by first | omega | (dsimp only; omega)) dX5_give_71 h)
theorem md_X5_give : yX5_give.cls ≠ "java/lang/invoke/MethodHandle" ∧ yX5_give.cls ≠ "java/lang/invoke/VarHandle" ∧ (parseMethodDescriptor yX5_give.desc).map (fun d => d.parameters.length) = some 0 := by decide +kernel
theorem wk_X5_give (l : Launch) {D : zk_G} {g : zk_M} {b0 : Nat} {post : zk_H → Prop} {px : Nat → zk_H → Prop} {this : Nat} {P : zk_H} (hh : wp_X5_give g post px this P) : zx_Met l yX5_give (ws_ yX5_give cX5_give 5 none) ({ frames := 11, cells := 27, slots := 969, locals := 257 } : Room) (va_Pc [.ref this] (zk_pre D g b0 P)) (va_Qv post (zk_B D b0) (zk_A b0)) (zx_X px (zx_B D b0) (zk_A b0)) 27 969 (zk_A b0) := by
  refine zx_enter "LandFolio$Reader" "give" rfl rfl (by decide) [.ref this] (Nat.le_of_ble_eq_true rfl) ?_
  intro p e s m args below meth c X hT
  refine zk_at0 (L' := [(0, va_rf (some this))]) (rfl) ?_
  have h := hh
  unfold wp_X5_give at h
  refine zv_aload_n X 0 dX5_give_0 rfl ?_
  refine zv_cv ((zr_Vl X (As := []) (rest := []) h (fun a h => wk_X5_next l h) (zk_l1 ⟨_, rfl, cwV 0 X.hts (lw_V q737 q738 q739 q115 q740) rfl rfl rfl ⟨rfl, md_X5_next⟩ ⟨Nat.le_of_ble_eq_true rfl, Nat.le_of_ble_eq_true rfl⟩⟩) rfl rfl (zk_rs (Nat.le_of_ble_eq_true rfl)) dX5_give_1 ⟨by first | omega | (dsimp only; omega), by first | omega | (dsimp only; omega)⟩)) (fun P1 h => ?_)
  refine zv_aload_n X 0 dX5_give_4 rfl ?_
  refine zvx_ci X hT (by omega) (by omega) ((zrx_Vl X (As := []) (rest := []) h (fun a h => wk_X5_live l h) (zk_l1 ⟨_, rfl, cwV 0 X.hts (lw_V q1171 q1173 qs20 q115 q1174) rfl rfl rfl ⟨rfl, md_X5_live⟩ ⟨Nat.le_of_ble_eq_true rfl, Nat.le_of_ble_eq_true rfl⟩⟩) rfl rfl (zk_rs (Nat.le_of_ble_eq_true rfl)) dX5_give_5 ⟨by first | omega | (dsimp only; omega), by first | omega | (dsimp only; omega)⟩)) (fun v5 P5 h => ?_)
  refine zv_istore_n X (i := 1) (L' := [(1, .int (v5)), (0, va_rf (some this))]) dX5_give_8 rfl (by decide) rfl ?_
  refine zv_aload_n X 1 dX5_give_9 rfl ?_
  refine zv_bipush X (v := -2) dX5_give_10 rfl ?_
  refine zvx_ci X hT (by omega) (by omega) ((zrx_Vl X (As := [.int (-2)]) (rest := []) h (fun a h => wk_X5_known l h) (zk_l1 ⟨_, rfl, cwV 1 X.hts (lw_V q1251 q1253 qs26 q115 q1254) rfl rfl rfl ⟨rfl, md_X5_known⟩ ⟨Nat.le_of_ble_eq_true rfl, Nat.le_of_ble_eq_true rfl⟩⟩) rfl rfl (zk_rs (Nat.le_of_ble_eq_true rfl)) dX5_give_12 ⟨by first | omega | (dsimp only; omega), by first | omega | (dsimp only; omega)⟩)) (fun v12 P12 h => ?_)
  refine zv_istore_n X (i := 2) (L' := [(2, .int (v12)), (1, .int (v5)), (0, va_rf (some this))]) dX5_give_15 rfl (by decide) rfl ?_
  refine zv_aload_n X 2 dX5_give_16 rfl ?_
  refine zv_iload_n X 0 dX5_give_17 rfl ?_
  refine zvx_ci X hT (by omega) (by omega) ((zrx_Vl X (As := [.int (v12)]) (rest := []) h (fun a h => wk_X5_known l h) (zk_l1 ⟨_, rfl, cwV 1 X.hts (lw_V q1251 q1253 qs26 q115 q1254) rfl rfl rfl ⟨rfl, md_X5_known⟩ ⟨Nat.le_of_ble_eq_true rfl, Nat.le_of_ble_eq_true rfl⟩⟩) rfl rfl (zk_rs (Nat.le_of_ble_eq_true rfl)) dX5_give_18 ⟨by first | omega | (dsimp only; omega), by first | omega | (dsimp only; omega)⟩)) (fun v18 P18 h => ?_)
  refine zv_istore_n X (i := 3) (L' := [(3, .int (v18)), (2, .int (v12)), (1, .int (v5)), (0, va_rf (some this))]) dX5_give_21 rfl (by decide) rfl ?_
  refine zv_aload_n X 3 dX5_give_22 rfl ?_
  refine zv_iconst X (v := 1) dX5_give_23 rfl ?_
  refine zv_aload_n X 3 dX5_give_24 rfl ?_
  refine zv_getf_r X fo_q1005 dX5_give_25 h (fun v25 h => ?_)
  refine zv_iload_n X 2 dX5_give_28 rfl ?_
  refine zv_cqR ((zr_Vl X (As := [.int (v5)]) (rest := [.int (1), va_rf (some this)]) h (fun a h => wk_X1_deed l h) (zk_l1 ⟨_, rfl, cwV 1 X.hts (lw_V q1256 q1190 q1191 q103 q1192) rfl rfl rfl ⟨rfl, md_X1_deed⟩ ⟨Nat.le_of_ble_eq_true rfl, Nat.le_of_ble_eq_true rfl⟩⟩) rfl rfl (zk_rs (Nat.le_of_ble_eq_true rfl)) dX5_give_29 ⟨by first | omega | (dsimp only; omega), by first | omega | (dsimp only; omega)⟩)) (fun v29 h => ?_)
  refine zv_getf_r X fo_q374 dX5_give_32 h (fun v32 h => ?_)
  refine zv_iload_n X 1 dX5_give_35 rfl ?_
  refine zv_iald X dX5_give_36 h (fun v36 h => ?_)
  refine zvx_ci X hT (by omega) (by omega) ((zrx_Vl X (As := [.int (1), .int (v36)]) (rest := []) h (fun a h => wk_X5_upTo l h) (zk_l1 ⟨_, rfl, cwV 2 X.hts (lw_V q1106 q1108 qs16 q115 q1109) rfl rfl rfl ⟨rfl, md_X5_upTo⟩ ⟨Nat.le_of_ble_eq_true rfl, Nat.le_of_ble_eq_true rfl⟩⟩) rfl rfl (zk_rs (Nat.le_of_ble_eq_true rfl)) dX5_give_37 ⟨by first | omega | (dsimp only; omega), by first | omega | (dsimp only; omega)⟩)) (fun v37 P37 h => ?_)
  refine zv_istore X (L' := [(4, .int (v37)), (3, .int (v18)), (2, .int (v12)), (1, .int (v5)), (0, va_rf (some this))]) dX5_give_40 (by decide) rfl ?_
  refine zv_aload_n X 4 dX5_give_42 rfl ?_
  refine zv_aload_n X 4 dX5_give_43 rfl ?_
  refine zv_getf_i X fo_q1009 dX5_give_44 h (fun v44 h => ?_)
  refine zv_iconst X (v := 4) dX5_give_47 rfl ?_
  refine zv_icmp_ne X (tgt := 55) dX5_give_48 (by decide) h (fun h => ?_) (fun h => ?_)
  · refine zv_iconst X (v := 0) dX5_give_55 rfl ?_
    refine zv_sub (L' := [(0, va_rf (some this)), (1, .int (v5)), (2, .int (v12)), (3, .int (v18)), (4, .int (v37))]) [4, 3, 2, 1, 0] rfl ?_
    refine zv_widen (c2 := 20) (s2 := 720) (by first | omega | (dsimp only; omega)) (by first | omega | (dsimp only; omega)) ?_
    exact kj_X5_give_56 X hT  h
  · refine zv_iconst X (v := 1) dX5_give_51 rfl ?_
    refine zv_goto X (tgt := 56) dX5_give_52 (by decide) ?_
    refine zv_sub (L' := [(0, va_rf (some this)), (1, .int (v5)), (2, .int (v12)), (3, .int (v18)), (4, .int (v37))]) [4, 3, 2, 1, 0] rfl ?_
    refine zv_widen (c2 := 20) (s2 := 720) (by first | omega | (dsimp only; omega)) (by first | omega | (dsimp only; omega)) ?_
    exact kj_X5_give_56 X hT  h
theorem kj_X5_split_89 {p : Program} {l : Launch} {e : Env} {s : State} {m : MethodId} {args : Array Value} {below : List Frame} {meth : Method} {c : Code} {D : zk_G} {g : zk_M} {b0 : Nat} (X : zk_X p s m args meth c D g b0 cX5_split 5 "LandFolio$Reader" "split" none) (hT : ∀ x ∈ c.exceptionTable.toList, False) {post : zk_H → Prop} {px : Nat → zk_H → Prop}  {a0 : Option Nat} {a1 : Int32} {a2 : Int32} {a3 : Int32} {s0 : Int32} {s1 : Option Nat} {P : zk_H}    (hh : wj_X5_split_89 g post px a0 a1 a2 a3 s0 s1 P) : zV p l e ({ frames := 11, cells := 30, slots := 1140, locals := 255 } : Room) s m args below meth c D b0 5 (16) (576) (zx_MQ below (va_Qv post (zk_B D b0) (zk_A b0)) (zx_X px (zx_B D b0) (zk_A b0)) args s 30 1140 (zk_A b0)) P 89 [(0, va_rf (a0)), (1, .int (a1)), (2, .int (a2)), (3, .int (a3))] [.int (s0), va_rf (s1)] := by
  have h := hh
  unfold wj_X5_split_89 at h
  refine zvx_cv X hT (by omega) (by omega) ((zrx_Vl X (As := [.int (s0)]) (rest := []) h (fun a h => wk_X5_takes l h) (zk_l1 ⟨_, rfl, cwV 1 X.hts (lw_V q1038 q1039 q1040 q115 q1041) rfl rfl rfl ⟨rfl, md_X5_takes⟩ ⟨Nat.le_of_ble_eq_true rfl, Nat.le_of_ble_eq_true rfl⟩⟩) rfl rfl (zk_rs (Nat.le_of_ble_eq_true rfl)) dX5_split_89 ⟨by first | omega | (dsimp only; omega), by first | omega | (dsimp only; omega)⟩)) (fun P89 h => ?_)
  refine zv_aload_n X 0 dX5_split_92 rfl ?_
  refine zv_getf_r X fo_q1005 dX5_split_93 h (fun v93 h => ?_)
  refine zv_iload_n X 1 dX5_split_96 rfl ?_
  refine zv_iload_n X 2 dX5_split_97 rfl ?_
  refine zv_iload_n X 3 dX5_split_98 rfl ?_
  refine zv_ci ((zr_Vl X (As := [.int (a1), .int (a2), .int (a3)]) (rest := []) h (fun a h => wk_X1_splits l h) (zk_l1 ⟨_, rfl, cwV 3 X.hts (lw_V q1185 q1186 q1187 q103 q1188) rfl rfl rfl ⟨rfl, md_X1_splits⟩ ⟨Nat.le_of_ble_eq_true rfl, Nat.le_of_ble_eq_true rfl⟩⟩) rfl rfl (zk_rs (Nat.le_of_ble_eq_true rfl)) dX5_split_99 ⟨by first | omega | (dsimp only; omega), by first | omega | (dsimp only; omega)⟩)) (fun v99 P99 h => ?_)
  refine zv_istore X (L' := [(4, .int (v99)), (0, va_rf (a0)), (1, .int (a1)), (2, .int (a2)), (3, .int (a3))]) dX5_split_102 (by decide) rfl ?_
  exact zvx_ret (zv_vret X rfl (by first | omega | (dsimp only; omega)) (by first | omega | (dsimp only; omega)) dX5_split_104 h)
theorem kj_X5_split_51 {p : Program} {l : Launch} {e : Env} {s : State} {m : MethodId} {args : Array Value} {below : List Frame} {meth : Method} {c : Code} {D : zk_G} {g : zk_M} {b0 : Nat} (X : zk_X p s m args meth c D g b0 cX5_split 5 "LandFolio$Reader" "split" none) (hT : ∀ x ∈ c.exceptionTable.toList, False) {post : zk_H → Prop} {px : Nat → zk_H → Prop}  {a0 : Option Nat} {a1 : Int32} {a2 : Int32} {s0 : Int32} {s1 : Option Nat} {P : zk_H}    (hh : wj_X5_split_51 g post px a0 a1 a2 s0 s1 P) : zV p l e ({ frames := 11, cells := 30, slots := 1140, locals := 255 } : Room) s m args below meth c D b0 5 (8) (288) (zx_MQ below (va_Qv post (zk_B D b0) (zk_A b0)) (zx_X px (zx_B D b0) (zk_A b0)) args s 30 1140 (zk_A b0)) P 51 [(0, va_rf (a0)), (1, .int (a1)), (2, .int (a2))] [.int (s0), va_rf (s1)] := by
  have h := hh
  unfold wj_X5_split_51 at h
  refine zvx_cv X hT (by omega) (by omega) ((zrx_Vl X (As := [.int (s0)]) (rest := []) h (fun a h => wk_X5_takes l h) (zk_l1 ⟨_, rfl, cwV 1 X.hts (lw_V q1038 q1039 q1040 q115 q1041) rfl rfl rfl ⟨rfl, md_X5_takes⟩ ⟨Nat.le_of_ble_eq_true rfl, Nat.le_of_ble_eq_true rfl⟩⟩) rfl rfl (zk_rs (Nat.le_of_ble_eq_true rfl)) dX5_split_51 ⟨by first | omega | (dsimp only; omega), by first | omega | (dsimp only; omega)⟩)) (fun P51 h => ?_)
  refine zv_aload_n X 0 dX5_split_54 rfl ?_
  refine zv_aload_n X 0 dX5_split_55 rfl ?_
  refine zv_getf_r X fo_q1005 dX5_split_56 h (fun v56 h => ?_)
  refine zv_iload_n X 1 dX5_split_59 rfl ?_
  refine zv_cqR ((zr_Vl X (As := [.int (a1)]) (rest := [va_rf (a0)]) h (fun a h => wk_X1_parcel l h) (zk_l1 ⟨_, rfl, cwV 1 X.hts (lw_V q1175 q502 q503 q103 q504) rfl rfl rfl ⟨rfl, md_X1_parcel⟩ ⟨Nat.le_of_ble_eq_true rfl, Nat.le_of_ble_eq_true rfl⟩⟩) rfl rfl (zk_rs (Nat.le_of_ble_eq_true rfl)) dX5_split_60 ⟨by first | omega | (dsimp only; omega), by first | omega | (dsimp only; omega)⟩)) (fun v60 h => ?_)
  refine zv_iload_n X 2 dX5_split_63 rfl ?_
  refine zv_aload_n X 0 dX5_split_64 rfl ?_
  refine zv_getf_i X fo_q1011 dX5_split_65 h (fun v65 h => ?_)
  refine zv_ciR ((zr_SN X (As := [va_rf (v60), .int (a2), .int (v65)]) (rest := [va_rf (a0)]) (wk_X0_parts l h) ⟨zk_cwN X 3 q1182 (lw_meth q1184) q102 md_X0_parts ⟨Nat.le_of_ble_eq_true rfl, Nat.le_of_ble_eq_true rfl⟩, q1183⟩ rfl rfl (zk_rs (Nat.le_of_ble_eq_true rfl)) dX5_split_68 ⟨by first | omega | (dsimp only; omega), by first | omega | (dsimp only; omega)⟩)) (fun v68 h => ?_)
  refine zvx_ci X hT (by omega) (by omega) ((zrx_Vl X (As := [.int (v68)]) (rest := []) h (fun a h => wk_X5_fits l h) (zk_l1 ⟨_, rfl, cwV 1 X.hts (lw_V q1110 q1112 qs17 q115 q1113) rfl rfl rfl ⟨rfl, md_X5_fits⟩ ⟨Nat.le_of_ble_eq_true rfl, Nat.le_of_ble_eq_true rfl⟩⟩) rfl rfl (zk_rs (Nat.le_of_ble_eq_true rfl)) dX5_split_71 ⟨by first | omega | (dsimp only; omega), by first | omega | (dsimp only; omega)⟩)) (fun v71 P71 h => ?_)
  refine zv_istore_n X (i := 3) (L' := [(3, .int (v71)), (0, va_rf (a0)), (1, .int (a1)), (2, .int (a2))]) dX5_split_74 rfl (by decide) rfl ?_
  refine zv_aload_n X 1 dX5_split_75 rfl ?_
  refine zv_aload_n X 1 dX5_split_76 rfl ?_
  refine zv_getf_i X fo_q1009 dX5_split_77 h (fun v77 h => ?_)
  refine zv_iconst X (v := 4) dX5_split_80 rfl ?_
  refine zv_icmp_ne X (tgt := 88) dX5_split_81 (by decide) h (fun h => ?_) (fun h => ?_)
  · refine zv_iconst X (v := 0) dX5_split_88 rfl ?_
    refine zv_sub (L' := [(0, va_rf (a0)), (1, .int (a1)), (2, .int (a2)), (3, .int (v71))]) [1, 2, 3, 0] rfl ?_
    refine zv_widen (c2 := 16) (s2 := 576) (by first | omega | (dsimp only; omega)) (by first | omega | (dsimp only; omega)) ?_
    exact kj_X5_split_89 X hT  h
  · refine zv_iconst X (v := 1) dX5_split_84 rfl ?_
    refine zv_goto X (tgt := 89) dX5_split_85 (by decide) ?_
    refine zv_sub (L' := [(0, va_rf (a0)), (1, .int (a1)), (2, .int (a2)), (3, .int (v71))]) [1, 2, 3, 0] rfl ?_
    refine zv_widen (c2 := 16) (s2 := 576) (by first | omega | (dsimp only; omega)) (by first | omega | (dsimp only; omega)) ?_
    exact kj_X5_split_89 X hT  h
theorem kj_X5_split_46 {p : Program} {l : Launch} {e : Env} {s : State} {m : MethodId} {args : Array Value} {below : List Frame} {meth : Method} {c : Code} {D : zk_G} {g : zk_M} {b0 : Nat} (X : zk_X p s m args meth c D g b0 cX5_split 5 "LandFolio$Reader" "split" none) (hT : ∀ x ∈ c.exceptionTable.toList, False) {post : zk_H → Prop} {px : Nat → zk_H → Prop}  {a0 : Option Nat} {a1 : Int32} {a2 : Int32} {s0 : Option Nat} {P : zk_H}    (hh : wj_X5_split_46 g post px a0 a1 a2 s0 P) : zV p l e ({ frames := 11, cells := 30, slots := 1140, locals := 255 } : Room) s m args below meth c D b0 5 (8) (288) (zx_MQ below (va_Qv post (zk_B D b0) (zk_A b0)) (zx_X px (zx_B D b0) (zk_A b0)) args s 30 1140 (zk_A b0)) P 46 [(0, va_rf (a0)), (1, .int (a1)), (2, .int (a2))] [va_rf (s0)] := by
  have h := hh
  unfold wj_X5_split_46 at h
  refine zv_iconst X (v := 1) dX5_split_46 rfl ?_
  refine zv_goto X (tgt := 51) dX5_split_47 (by decide) ?_
  refine zv_widen (c2 := 8) (s2 := 288) (by first | omega | (dsimp only; omega)) (by first | omega | (dsimp only; omega)) ?_
  exact kj_X5_split_51 X hT  h
theorem kj_X5_split_30 {p : Program} {l : Launch} {e : Env} {s : State} {m : MethodId} {args : Array Value} {below : List Frame} {meth : Method} {c : Code} {D : zk_G} {g : zk_M} {b0 : Nat} (X : zk_X p s m args meth c D g b0 cX5_split 5 "LandFolio$Reader" "split" none) (hT : ∀ x ∈ c.exceptionTable.toList, False) {post : zk_H → Prop} {px : Nat → zk_H → Prop}  {a0 : Option Nat} {a1 : Int32} {s0 : Int32} {P : zk_H}    (hh : wj_X5_split_30 g post px a0 a1 s0 P) : zV p l e ({ frames := 11, cells := 30, slots := 1140, locals := 255 } : Room) s m args below meth c D b0 5 (8) (288) (zx_MQ below (va_Qv post (zk_B D b0) (zk_A b0)) (zx_X px (zx_B D b0) (zk_A b0)) args s 30 1140 (zk_A b0)) P 30 [(0, va_rf (a0)), (1, .int (a1))] [.int (s0)] := by
  have h := hh
  unfold wj_X5_split_30 at h
  refine zv_istore_n X (i := 2) (L' := [(2, .int (s0)), (0, va_rf (a0)), (1, .int (a1))]) dX5_split_30 rfl (by decide) rfl ?_
  refine zv_aload_n X 1 dX5_split_31 rfl ?_
  refine zv_iload_n X 0 dX5_split_32 rfl ?_
  refine zv_iconst X (v := 1) dX5_split_33 rfl ?_
  refine zv_icmp_eq X (tgt := 46) dX5_split_34 (by decide) h (fun h => ?_) (fun h => ?_)
  · refine zv_sub (L' := [(0, va_rf (a0)), (1, .int (a1)), (2, .int (s0))]) [1, 2, 0] rfl ?_
    refine zv_widen (c2 := 8) (s2 := 288) (by first | omega | (dsimp only; omega)) (by first | omega | (dsimp only; omega)) ?_
    exact kj_X5_split_46 X hT  h
  · refine zv_aload_n X 1 dX5_split_37 rfl ?_
    refine zv_ldcS X (i := 16) rfl dX5_split_38 ?_
    refine zv_ciR ((zr_Vl X (As := [va_rf (some (g 7))]) (rest := [va_rf (a0)]) h (fun a h => wk_X5_isKey l h) (zk_l1 ⟨_, rfl, cwV 1 X.hts (lw_V q1033 q1035 qs14 q115 q1036) rfl rfl rfl ⟨rfl, md_X5_isKey⟩ ⟨Nat.le_of_ble_eq_true rfl, Nat.le_of_ble_eq_true rfl⟩⟩) rfl rfl (zk_rs (Nat.le_of_ble_eq_true rfl)) dX5_split_40 ⟨by first | omega | (dsimp only; omega), by first | omega | (dsimp only; omega)⟩)) (fun v40 h => ?_)
    refine zv_if_eq X (tgt := 50) dX5_split_43 (by decide) h (fun h => ?_) (fun h => ?_)
    · refine zv_iconst X (v := 0) dX5_split_50 rfl ?_
      refine zv_sub (L' := [(0, va_rf (a0)), (1, .int (a1)), (2, .int (s0))]) [1, 2, 0] rfl ?_
      refine zv_widen (c2 := 8) (s2 := 288) (by first | omega | (dsimp only; omega)) (by first | omega | (dsimp only; omega)) ?_
      exact kj_X5_split_51 X hT  h
    · refine zv_sub (L' := [(0, va_rf (a0)), (1, .int (a1)), (2, .int (s0))]) [1, 2, 0] rfl ?_
      refine zv_widen (c2 := 8) (s2 := 288) (by first | omega | (dsimp only; omega)) (by first | omega | (dsimp only; omega)) ?_
      exact kj_X5_split_46 X hT  h
theorem md_X5_split : yX5_split.cls ≠ "java/lang/invoke/MethodHandle" ∧ yX5_split.cls ≠ "java/lang/invoke/VarHandle" ∧ (parseMethodDescriptor yX5_split.desc).map (fun d => d.parameters.length) = some 0 := by decide +kernel
theorem wk_X5_split (l : Launch) {D : zk_G} {g : zk_M} {b0 : Nat} {post : zk_H → Prop} {px : Nat → zk_H → Prop} {this : Nat} {P : zk_H} (hh : wp_X5_split g post px this P) : zx_Met l yX5_split (ws_ yX5_split cX5_split 5 none) ({ frames := 11, cells := 30, slots := 1140, locals := 255 } : Room) (va_Pc [.ref this] (zk_pre D g b0 P)) (va_Qv post (zk_B D b0) (zk_A b0)) (zx_X px (zx_B D b0) (zk_A b0)) 30 1140 (zk_A b0) := by
  refine zx_enter "LandFolio$Reader" "split" rfl rfl (by decide) [.ref this] (Nat.le_of_ble_eq_true rfl) ?_
  intro p e s m args below meth c X hT
  refine zk_at0 (L' := [(0, va_rf (some this))]) (rfl) ?_
  have h := hh
  unfold wp_X5_split at h
  refine zv_aload_n X 0 dX5_split_0 rfl ?_
  refine zv_aload_n X 0 dX5_split_1 rfl ?_
  refine zv_getf_r X fo_q1005 dX5_split_2 h (fun v2 h => ?_)
  refine zv_ciR ((zr_Vl X (As := []) (rest := [va_rf (some this)]) h (fun a h => wk_X1_canSplit l h) (zk_l1 ⟨_, rfl, cwV 0 X.hts (lw_V q1167 q1168 q1169 q103 q1170) rfl rfl rfl ⟨rfl, md_X1_canSplit⟩ ⟨Nat.le_of_ble_eq_true rfl, Nat.le_of_ble_eq_true rfl⟩⟩) rfl rfl (zk_rs (Nat.le_of_ble_eq_true rfl)) dX5_split_5 ⟨by first | omega | (dsimp only; omega), by first | omega | (dsimp only; omega)⟩)) (fun v5 h => ?_)
  refine zvx_cv X hT (by omega) (by omega) ((zrx_Vl X (As := [.int (v5)]) (rest := []) h (fun a h => wk_X5_takes l h) (zk_l1 ⟨_, rfl, cwV 1 X.hts (lw_V q1038 q1039 q1040 q115 q1041) rfl rfl rfl ⟨rfl, md_X5_takes⟩ ⟨Nat.le_of_ble_eq_true rfl, Nat.le_of_ble_eq_true rfl⟩⟩) rfl rfl (zk_rs (Nat.le_of_ble_eq_true rfl)) dX5_split_8 ⟨by first | omega | (dsimp only; omega), by first | omega | (dsimp only; omega)⟩)) (fun P8 h => ?_)
  refine zv_aload_n X 0 dX5_split_11 rfl ?_
  refine zvx_ci X hT (by omega) (by omega) ((zrx_Vl X (As := []) (rest := []) h (fun a h => wk_X5_live l h) (zk_l1 ⟨_, rfl, cwV 0 X.hts (lw_V q1171 q1173 qs20 q115 q1174) rfl rfl rfl ⟨rfl, md_X5_live⟩ ⟨Nat.le_of_ble_eq_true rfl, Nat.le_of_ble_eq_true rfl⟩⟩) rfl rfl (zk_rs (Nat.le_of_ble_eq_true rfl)) dX5_split_12 ⟨by first | omega | (dsimp only; omega), by first | omega | (dsimp only; omega)⟩)) (fun v12 P12 h => ?_)
  refine zv_istore_n X (i := 1) (L' := [(1, .int (v12)), (0, va_rf (some this))]) dX5_split_15 rfl (by decide) rfl ?_
  refine zv_aload_n X 1 dX5_split_16 rfl ?_
  refine zv_ldcS X (i := 15) rfl dX5_split_17 ?_
  refine zv_ciR ((zr_Vl X (As := [va_rf (some (g 6))]) (rest := []) h (fun a h => wk_X5_isKey l h) (zk_l1 ⟨_, rfl, cwV 1 X.hts (lw_V q1033 q1035 qs14 q115 q1036) rfl rfl rfl ⟨rfl, md_X5_isKey⟩ ⟨Nat.le_of_ble_eq_true rfl, Nat.le_of_ble_eq_true rfl⟩⟩) rfl rfl (zk_rs (Nat.le_of_ble_eq_true rfl)) dX5_split_19 ⟨by first | omega | (dsimp only; omega), by first | omega | (dsimp only; omega)⟩)) (fun v19 h => ?_)
  refine zv_if_eq X (tgt := 29) dX5_split_22 (by decide) h (fun h => ?_) (fun h => ?_)
  · refine zv_iconst X (v := 0) dX5_split_29 rfl ?_
    refine zv_sub (L' := [(0, va_rf (some this)), (1, .int (v12))]) [1, 0] rfl ?_
    refine zv_widen (c2 := 8) (s2 := 288) (by first | omega | (dsimp only; omega)) (by first | omega | (dsimp only; omega)) ?_
    exact kj_X5_split_30 X hT  h
  · refine zv_iconst X (v := 1) dX5_split_25 rfl ?_
    refine zv_goto X (tgt := 30) dX5_split_26 (by decide) ?_
    refine zv_sub (L' := [(0, va_rf (some this)), (1, .int (v12))]) [1, 0] rfl ?_
    refine zv_widen (c2 := 8) (s2 := 288) (by first | omega | (dsimp only; omega)) (by first | omega | (dsimp only; omega)) ?_
    exact kj_X5_split_30 X hT  h
theorem kb_X5_setup_137 {p : Program} {l : Launch} {e : Env} {s : State} {m : MethodId} {args : Array Value} {below : List Frame} {meth : Method} {c : Code} {D : zk_G} {g : zk_M} {b0 : Nat} (X : zk_X p s m args meth c D g b0 cX5_setup 3 "LandFolio$Reader" "setup" none) (hT : ∀ x ∈ c.exceptionTable.toList, False) {post : zk_H → Prop} {px : Nat → zk_H → Prop}  {K137 : zk_H → Prop} {a0 : Option Nat} {P : zk_H} {c0 c1 : Nat}  (hK137 : ∀  (U : zk_H), K137  U → zV p l e ({ frames := 12, cells := 5507, slots := 198065, locals := 281 } : Room) s m args below meth c D b0 3 (c0 + 24) (c1 + 826) (zx_MQ below (va_Qv post (zk_B D b0) (zk_A b0)) (zx_X px (zx_B D b0) (zk_A b0)) args s 5507 198065 (zk_A b0)) U 137 [(0, va_rf (a0))] []) (hc0 : c0 + 24 ≤ 5507) (hc1 : c1 + 826 ≤ 198065) (hh : wb_X5_setup_137 g post px a0 K137 P) : zV p l e ({ frames := 12, cells := 5507, slots := 198065, locals := 281 } : Room) s m args below meth c D b0 3 (c0) (c1) (zx_MQ below (va_Qv post (zk_B D b0) (zk_A b0)) (zx_X px (zx_B D b0) (zk_A b0)) args s 5507 198065 (zk_A b0)) P 137 [(0, va_rf (a0))] [] := by
  have h := hh
  unfold wb_X5_setup_137 at h
  refine zv_aload_n X 0 dX5_setup_137 rfl ?_
  refine zv_getf_i X fo_q1009 dX5_setup_138 h (fun v138 h => ?_)
  refine zv_if_eq X (tgt := 151) dX5_setup_141 (by decide) h (fun h => ?_) (fun h => ?_)
  · exact zvx_ret (zv_vret X rfl (by first | omega | (dsimp only; omega)) (by first | omega | (dsimp only; omega)) dX5_setup_151 h)
  · refine zv_aload_n X 0 dX5_setup_144 rfl ?_
    refine zvx_cv X hT (by omega) (by omega) ((zrx_Vl X (As := []) (rest := []) h (fun a h => wk_X5_path l h) (zk_l1 ⟨_, rfl, cwV 0 X.hts (lw_V q1281 q1283 qs28 q115 q1284) rfl rfl rfl ⟨rfl, md_X5_path⟩ ⟨Nat.le_of_ble_eq_true rfl, Nat.le_of_ble_eq_true rfl⟩⟩) rfl rfl (zk_rs (Nat.le_of_ble_eq_true rfl)) dX5_setup_145 ⟨by first | omega | (dsimp only; omega), by first | omega | (dsimp only; omega)⟩)) (fun P145 h => ?_)
    refine zv_goto X (tgt := 137) dX5_setup_148 (by decide) ?_
    refine zv_widen (c2 := c0 + 24) (s2 := c1 + 826) (by omega) (by omega) ?_
    exact hK137 _ h
theorem kl_X5_setup_137 {p : Program} {l : Launch} {e : Env} {s : State} {m : MethodId} {args : Array Value} {below : List Frame} {meth : Method} {c : Code} {D : zk_G} {g : zk_M} {b0 : Nat} (X : zk_X p s m args meth c D g b0 cX5_setup 3 "LandFolio$Reader" "setup" none) (hT : ∀ x ∈ c.exceptionTable.toList, False) {post : zk_H → Prop} {px : Nat → zk_H → Prop}  {a0 : Option Nat}   : ∀ (n c0 c1 : Nat), c0 + n * 24 ≤ 5507 → c1 + n * 826 ≤ 198065 → ∀  (P : zk_H), wl_X5_setup_137 g post px a0 n P → zV p l e ({ frames := 12, cells := 5507, slots := 198065, locals := 281 } : Room) s m args below meth c D b0 3 (c0) (c1) (zx_MQ below (va_Qv post (zk_B D b0) (zk_A b0)) (zx_X px (zx_B D b0) (zk_A b0)) args s 5507 198065 (zk_A b0)) P 137 [(0, va_rf (a0))] [] := by
  intro n
  induction n with
  | zero => intro c0 c1 _ _ _ h; exact h.elim
  | succ n ih =>
    intro c0 c1 hn0 hn1 P h
    exact kb_X5_setup_137 X hT  (fun u0 h => ih _ _ (by omega) (by omega) _ h) (by omega) (by omega) h
theorem kb_X5_setup_121 {p : Program} {l : Launch} {e : Env} {s : State} {m : MethodId} {args : Array Value} {below : List Frame} {meth : Method} {c : Code} {D : zk_G} {g : zk_M} {b0 : Nat} (X : zk_X p s m args meth c D g b0 cX5_setup 3 "LandFolio$Reader" "setup" none) (hT : ∀ x ∈ c.exceptionTable.toList, False) {post : zk_H → Prop} {px : Nat → zk_H → Prop}  {K121 : zk_H → Prop} {a0 : Option Nat} {P : zk_H} {c0 c1 : Nat}  (hK121 : ∀  (U : zk_H), K121  U → zV p l e ({ frames := 12, cells := 5507, slots := 198065, locals := 281 } : Room) s m args below meth c D b0 3 (c0 + 24) (c1 + 826) (zx_MQ below (va_Qv post (zk_B D b0) (zk_A b0)) (zx_X px (zx_B D b0) (zk_A b0)) args s 5507 198065 (zk_A b0)) U 121 [(0, va_rf (a0))] []) (hc0 : c0 + 24 ≤ 4979) (hc1 : c1 + 826 ≤ 179893) (hh : wb_X5_setup_121 g post px a0 K121 P) : zV p l e ({ frames := 12, cells := 5507, slots := 198065, locals := 281 } : Room) s m args below meth c D b0 3 (c0) (c1) (zx_MQ below (va_Qv post (zk_B D b0) (zk_A b0)) (zx_X px (zx_B D b0) (zk_A b0)) args s 5507 198065 (zk_A b0)) P 121 [(0, va_rf (a0))] [] := by
  have h := hh
  unfold wb_X5_setup_121 at h
  refine zv_aload_n X 0 dX5_setup_121 rfl ?_
  refine zv_ldcS X (i := 18) rfl dX5_setup_122 ?_
  refine zv_ciR ((zr_Vl X (As := [va_rf (some (g 9))]) (rest := []) h (fun a h => wk_X5_isKey l h) (zk_l1 ⟨_, rfl, cwV 1 X.hts (lw_V q1033 q1035 qs14 q115 q1036) rfl rfl rfl ⟨rfl, md_X5_isKey⟩ ⟨Nat.le_of_ble_eq_true rfl, Nat.le_of_ble_eq_true rfl⟩⟩) rfl rfl (zk_rs (Nat.le_of_ble_eq_true rfl)) dX5_setup_124 ⟨by first | omega | (dsimp only; omega), by first | omega | (dsimp only; omega)⟩)) (fun v124 h => ?_)
  refine zv_if_eq X (tgt := 137) dX5_setup_127 (by decide) h (fun h => ?_) (fun h => ?_)
  · refine zv_widen (c2 := 4979) (s2 := 179893) (by omega) (by omega) ?_
    exact kl_X5_setup_137 X hT  22 _ _ (by omega) (by omega) _ h
  · refine zv_aload_n X 0 dX5_setup_130 rfl ?_
    refine zvx_cv X hT (by omega) (by omega) ((zrx_Vl X (As := []) (rest := []) h (fun a h => wk_X5_debt l h) (zk_l1 ⟨_, rfl, cwV 0 X.hts (lw_V q1271 q1273 qs27 q115 q1274) rfl rfl rfl ⟨rfl, md_X5_debt⟩ ⟨Nat.le_of_ble_eq_true rfl, Nat.le_of_ble_eq_true rfl⟩⟩) rfl rfl (zk_rs (Nat.le_of_ble_eq_true rfl)) dX5_setup_131 ⟨by first | omega | (dsimp only; omega), by first | omega | (dsimp only; omega)⟩)) (fun P131 h => ?_)
    refine zv_goto X (tgt := 121) dX5_setup_134 (by decide) ?_
    refine zv_widen (c2 := c0 + 24) (s2 := c1 + 826) (by omega) (by omega) ?_
    exact hK121 _ h
theorem kl_X5_setup_121 {p : Program} {l : Launch} {e : Env} {s : State} {m : MethodId} {args : Array Value} {below : List Frame} {meth : Method} {c : Code} {D : zk_G} {g : zk_M} {b0 : Nat} (X : zk_X p s m args meth c D g b0 cX5_setup 3 "LandFolio$Reader" "setup" none) (hT : ∀ x ∈ c.exceptionTable.toList, False) {post : zk_H → Prop} {px : Nat → zk_H → Prop}  {a0 : Option Nat}   : ∀ (n c0 c1 : Nat), c0 + n * 24 ≤ 4979 → c1 + n * 826 ≤ 179893 → ∀  (P : zk_H), wl_X5_setup_121 g post px a0 n P → zV p l e ({ frames := 12, cells := 5507, slots := 198065, locals := 281 } : Room) s m args below meth c D b0 3 (c0) (c1) (zx_MQ below (va_Qv post (zk_B D b0) (zk_A b0)) (zx_X px (zx_B D b0) (zk_A b0)) args s 5507 198065 (zk_A b0)) P 121 [(0, va_rf (a0))] [] := by
  intro n
  induction n with
  | zero => intro c0 c1 _ _ _ h; exact h.elim
  | succ n ih =>
    intro c0 c1 hn0 hn1 P h
    exact kb_X5_setup_121 X hT  (fun u0 h => ih _ _ (by omega) (by omega) _ h) (by omega) (by omega) h
theorem kb_X5_setup_105 {p : Program} {l : Launch} {e : Env} {s : State} {m : MethodId} {args : Array Value} {below : List Frame} {meth : Method} {c : Code} {D : zk_G} {g : zk_M} {b0 : Nat} (X : zk_X p s m args meth c D g b0 cX5_setup 3 "LandFolio$Reader" "setup" none) (hT : ∀ x ∈ c.exceptionTable.toList, False) {post : zk_H → Prop} {px : Nat → zk_H → Prop}  {K105 : zk_H → Prop} {a0 : Option Nat} {P : zk_H} {c0 c1 : Nat}  (hK105 : ∀  (U : zk_H), K105  U → zV p l e ({ frames := 12, cells := 5507, slots := 198065, locals := 281 } : Room) s m args below meth c D b0 3 (c0 + 27) (c1 + 969) (zx_MQ below (va_Qv post (zk_B D b0) (zk_A b0)) (zx_X px (zx_B D b0) (zk_A b0)) args s 5507 198065 (zk_A b0)) U 105 [(0, va_rf (a0))] []) (hc0 : c0 + 27 ≤ 4451) (hc1 : c1 + 969 ≤ 161721) (hh : wb_X5_setup_105 g post px a0 K105 P) : zV p l e ({ frames := 12, cells := 5507, slots := 198065, locals := 281 } : Room) s m args below meth c D b0 3 (c0) (c1) (zx_MQ below (va_Qv post (zk_B D b0) (zk_A b0)) (zx_X px (zx_B D b0) (zk_A b0)) args s 5507 198065 (zk_A b0)) P 105 [(0, va_rf (a0))] [] := by
  have h := hh
  unfold wb_X5_setup_105 at h
  refine zv_aload_n X 0 dX5_setup_105 rfl ?_
  refine zv_ldcS X (i := 17) rfl dX5_setup_106 ?_
  refine zv_ciR ((zr_Vl X (As := [va_rf (some (g 8))]) (rest := []) h (fun a h => wk_X5_isKey l h) (zk_l1 ⟨_, rfl, cwV 1 X.hts (lw_V q1033 q1035 qs14 q115 q1036) rfl rfl rfl ⟨rfl, md_X5_isKey⟩ ⟨Nat.le_of_ble_eq_true rfl, Nat.le_of_ble_eq_true rfl⟩⟩) rfl rfl (zk_rs (Nat.le_of_ble_eq_true rfl)) dX5_setup_108 ⟨by first | omega | (dsimp only; omega), by first | omega | (dsimp only; omega)⟩)) (fun v108 h => ?_)
  refine zv_if_eq X (tgt := 121) dX5_setup_111 (by decide) h (fun h => ?_) (fun h => ?_)
  · refine zv_widen (c2 := 4451) (s2 := 161721) (by omega) (by omega) ?_
    exact kl_X5_setup_121 X hT  22 _ _ (by omega) (by omega) _ h
  · refine zv_aload_n X 0 dX5_setup_114 rfl ?_
    refine zvx_cv X hT (by omega) (by omega) ((zrx_Vl X (As := []) (rest := []) h (fun a h => wk_X5_give l h) (zk_l1 ⟨_, rfl, cwV 0 X.hts (lw_V q1247 q1249 qs25 q115 q1250) rfl rfl rfl ⟨rfl, md_X5_give⟩ ⟨Nat.le_of_ble_eq_true rfl, Nat.le_of_ble_eq_true rfl⟩⟩) rfl rfl (zk_rs (Nat.le_of_ble_eq_true rfl)) dX5_setup_115 ⟨by first | omega | (dsimp only; omega), by first | omega | (dsimp only; omega)⟩)) (fun P115 h => ?_)
    refine zv_goto X (tgt := 105) dX5_setup_118 (by decide) ?_
    refine zv_widen (c2 := c0 + 27) (s2 := c1 + 969) (by omega) (by omega) ?_
    exact hK105 _ h
theorem kl_X5_setup_105 {p : Program} {l : Launch} {e : Env} {s : State} {m : MethodId} {args : Array Value} {below : List Frame} {meth : Method} {c : Code} {D : zk_G} {g : zk_M} {b0 : Nat} (X : zk_X p s m args meth c D g b0 cX5_setup 3 "LandFolio$Reader" "setup" none) (hT : ∀ x ∈ c.exceptionTable.toList, False) {post : zk_H → Prop} {px : Nat → zk_H → Prop}  {a0 : Option Nat}   : ∀ (n c0 c1 : Nat), c0 + n * 27 ≤ 4451 → c1 + n * 969 ≤ 161721 → ∀  (P : zk_H), wl_X5_setup_105 g post px a0 n P → zV p l e ({ frames := 12, cells := 5507, slots := 198065, locals := 281 } : Room) s m args below meth c D b0 3 (c0) (c1) (zx_MQ below (va_Qv post (zk_B D b0) (zk_A b0)) (zx_X px (zx_B D b0) (zk_A b0)) args s 5507 198065 (zk_A b0)) P 105 [(0, va_rf (a0))] [] := by
  intro n
  induction n with
  | zero => intro c0 c1 _ _ _ h; exact h.elim
  | succ n ih =>
    intro c0 c1 hn0 hn1 P h
    exact kb_X5_setup_105 X hT  (fun u0 h => ih _ _ (by omega) (by omega) _ h) (by omega) (by omega) h
theorem kb_X5_setup_89 {p : Program} {l : Launch} {e : Env} {s : State} {m : MethodId} {args : Array Value} {below : List Frame} {meth : Method} {c : Code} {D : zk_G} {g : zk_M} {b0 : Nat} (X : zk_X p s m args meth c D g b0 cX5_setup 3 "LandFolio$Reader" "setup" none) (hT : ∀ x ∈ c.exceptionTable.toList, False) {post : zk_H → Prop} {px : Nat → zk_H → Prop}  {K89 : zk_H → Prop} {a0 : Option Nat} {P : zk_H} {c0 c1 : Nat}  (hK89 : ∀  (U : zk_H), K89  U → zV p l e ({ frames := 12, cells := 5507, slots := 198065, locals := 281 } : Room) s m args below meth c D b0 3 (c0 + 30) (c1 + 1140) (zx_MQ below (va_Qv post (zk_B D b0) (zk_A b0)) (zx_X px (zx_B D b0) (zk_A b0)) args s 5507 198065 (zk_A b0)) U 89 [(0, va_rf (a0))] []) (hc0 : c0 + 30 ≤ 806) (hc1 : c1 + 1140 ≤ 30906) (hh : wb_X5_setup_89 g post px a0 K89 P) : zV p l e ({ frames := 12, cells := 5507, slots := 198065, locals := 281 } : Room) s m args below meth c D b0 3 (c0) (c1) (zx_MQ below (va_Qv post (zk_B D b0) (zk_A b0)) (zx_X px (zx_B D b0) (zk_A b0)) args s 5507 198065 (zk_A b0)) P 89 [(0, va_rf (a0))] [] := by
  have h := hh
  unfold wb_X5_setup_89 at h
  refine zv_aload_n X 0 dX5_setup_89 rfl ?_
  refine zv_ldcS X (i := 14) rfl dX5_setup_90 ?_
  refine zv_ciR ((zr_Vl X (As := [va_rf (some (g 5))]) (rest := []) h (fun a h => wk_X5_isKey l h) (zk_l1 ⟨_, rfl, cwV 1 X.hts (lw_V q1033 q1035 qs14 q115 q1036) rfl rfl rfl ⟨rfl, md_X5_isKey⟩ ⟨Nat.le_of_ble_eq_true rfl, Nat.le_of_ble_eq_true rfl⟩⟩) rfl rfl (zk_rs (Nat.le_of_ble_eq_true rfl)) dX5_setup_92 ⟨by first | omega | (dsimp only; omega), by first | omega | (dsimp only; omega)⟩)) (fun v92 h => ?_)
  refine zv_if_eq X (tgt := 105) dX5_setup_95 (by decide) h (fun h => ?_) (fun h => ?_)
  · refine zv_widen (c2 := 806) (s2 := 30906) (by omega) (by omega) ?_
    exact kl_X5_setup_105 X hT  135 _ _ (by omega) (by omega) _ h
  · refine zv_aload_n X 0 dX5_setup_98 rfl ?_
    refine zvx_cv X hT (by omega) (by omega) ((zrx_Vl X (As := []) (rest := []) h (fun a h => wk_X5_split l h) (zk_l1 ⟨_, rfl, cwV 0 X.hts (lw_V q1163 q1165 qs19 q115 q1166) rfl rfl rfl ⟨rfl, md_X5_split⟩ ⟨Nat.le_of_ble_eq_true rfl, Nat.le_of_ble_eq_true rfl⟩⟩) rfl rfl (zk_rs (Nat.le_of_ble_eq_true rfl)) dX5_setup_99 ⟨by first | omega | (dsimp only; omega), by first | omega | (dsimp only; omega)⟩)) (fun P99 h => ?_)
    refine zv_goto X (tgt := 89) dX5_setup_102 (by decide) ?_
    refine zv_widen (c2 := c0 + 30) (s2 := c1 + 1140) (by omega) (by omega) ?_
    exact hK89 _ h
theorem kl_X5_setup_89 {p : Program} {l : Launch} {e : Env} {s : State} {m : MethodId} {args : Array Value} {below : List Frame} {meth : Method} {c : Code} {D : zk_G} {g : zk_M} {b0 : Nat} (X : zk_X p s m args meth c D g b0 cX5_setup 3 "LandFolio$Reader" "setup" none) (hT : ∀ x ∈ c.exceptionTable.toList, False) {post : zk_H → Prop} {px : Nat → zk_H → Prop}  {a0 : Option Nat}   : ∀ (n c0 c1 : Nat), c0 + n * 30 ≤ 806 → c1 + n * 1140 ≤ 30906 → ∀  (P : zk_H), wl_X5_setup_89 g post px a0 n P → zV p l e ({ frames := 12, cells := 5507, slots := 198065, locals := 281 } : Room) s m args below meth c D b0 3 (c0) (c1) (zx_MQ below (va_Qv post (zk_B D b0) (zk_A b0)) (zx_X px (zx_B D b0) (zk_A b0)) args s 5507 198065 (zk_A b0)) P 89 [(0, va_rf (a0))] [] := by
  intro n
  induction n with
  | zero => intro c0 c1 _ _ _ h; exact h.elim
  | succ n ih =>
    intro c0 c1 hn0 hn1 P h
    exact kb_X5_setup_89 X hT  (fun u0 h => ih _ _ (by omega) (by omega) _ h) (by omega) (by omega) h
theorem kb_X5_setup_73 {p : Program} {l : Launch} {e : Env} {s : State} {m : MethodId} {args : Array Value} {below : List Frame} {meth : Method} {c : Code} {D : zk_G} {g : zk_M} {b0 : Nat} (X : zk_X p s m args meth c D g b0 cX5_setup 3 "LandFolio$Reader" "setup" none) (hT : ∀ x ∈ c.exceptionTable.toList, False) {post : zk_H → Prop} {px : Nat → zk_H → Prop}  {K73 : zk_H → Prop} {a0 : Option Nat} {P : zk_H} {c0 c1 : Nat}  (hK73 : ∀  (U : zk_H), K73  U → zV p l e ({ frames := 12, cells := 5507, slots := 198065, locals := 281 } : Room) s m args below meth c D b0 3 (c0 + 13) (c1 + 528) (zx_MQ below (va_Qv post (zk_B D b0) (zk_A b0)) (zx_X px (zx_B D b0) (zk_A b0)) args s 5507 198065 (zk_A b0)) U 73 [(0, va_rf (a0))] []) (hc0 : c0 + 13 ≤ 146) (hc1 : c1 + 528 ≤ 5826) (hh : wb_X5_setup_73 g post px a0 K73 P) : zV p l e ({ frames := 12, cells := 5507, slots := 198065, locals := 281 } : Room) s m args below meth c D b0 3 (c0) (c1) (zx_MQ below (va_Qv post (zk_B D b0) (zk_A b0)) (zx_X px (zx_B D b0) (zk_A b0)) args s 5507 198065 (zk_A b0)) P 73 [(0, va_rf (a0))] [] := by
  have h := hh
  unfold wb_X5_setup_73 at h
  refine zv_aload_n X 0 dX5_setup_73 rfl ?_
  refine zv_ldcS X (i := 13) rfl dX5_setup_74 ?_
  refine zv_ciR ((zr_Vl X (As := [va_rf (some (g 4))]) (rest := []) h (fun a h => wk_X5_isKey l h) (zk_l1 ⟨_, rfl, cwV 1 X.hts (lw_V q1033 q1035 qs14 q115 q1036) rfl rfl rfl ⟨rfl, md_X5_isKey⟩ ⟨Nat.le_of_ble_eq_true rfl, Nat.le_of_ble_eq_true rfl⟩⟩) rfl rfl (zk_rs (Nat.le_of_ble_eq_true rfl)) dX5_setup_76 ⟨by first | omega | (dsimp only; omega), by first | omega | (dsimp only; omega)⟩)) (fun v76 h => ?_)
  refine zv_if_eq X (tgt := 89) dX5_setup_79 (by decide) h (fun h => ?_) (fun h => ?_)
  · refine zv_widen (c2 := 146) (s2 := 5826) (by omega) (by omega) ?_
    exact kl_X5_setup_89 X hT  22 _ _ (by omega) (by omega) _ h
  · refine zv_aload_n X 0 dX5_setup_82 rfl ?_
    refine zvx_cv X hT (by omega) (by omega) ((zrx_Vl X (As := []) (rest := []) h (fun a h => wk_X5_owner l h) (zk_l1 ⟨_, rfl, cwV 0 X.hts (lw_V q1116 q1118 qs18 q115 q1119) rfl rfl rfl ⟨rfl, md_X5_owner⟩ ⟨Nat.le_of_ble_eq_true rfl, Nat.le_of_ble_eq_true rfl⟩⟩) rfl rfl (zk_rs (Nat.le_of_ble_eq_true rfl)) dX5_setup_83 ⟨by first | omega | (dsimp only; omega), by first | omega | (dsimp only; omega)⟩)) (fun P83 h => ?_)
    refine zv_goto X (tgt := 73) dX5_setup_86 (by decide) ?_
    refine zv_widen (c2 := c0 + 13) (s2 := c1 + 528) (by omega) (by omega) ?_
    exact hK73 _ h
theorem kl_X5_setup_73 {p : Program} {l : Launch} {e : Env} {s : State} {m : MethodId} {args : Array Value} {below : List Frame} {meth : Method} {c : Code} {D : zk_G} {g : zk_M} {b0 : Nat} (X : zk_X p s m args meth c D g b0 cX5_setup 3 "LandFolio$Reader" "setup" none) (hT : ∀ x ∈ c.exceptionTable.toList, False) {post : zk_H → Prop} {px : Nat → zk_H → Prop}  {a0 : Option Nat}   : ∀ (n c0 c1 : Nat), c0 + n * 13 ≤ 146 → c1 + n * 528 ≤ 5826 → ∀  (P : zk_H), wl_X5_setup_73 g post px a0 n P → zV p l e ({ frames := 12, cells := 5507, slots := 198065, locals := 281 } : Room) s m args below meth c D b0 3 (c0) (c1) (zx_MQ below (va_Qv post (zk_B D b0) (zk_A b0)) (zx_X px (zx_B D b0) (zk_A b0)) args s 5507 198065 (zk_A b0)) P 73 [(0, va_rf (a0))] [] := by
  intro n
  induction n with
  | zero => intro c0 c1 _ _ _ h; exact h.elim
  | succ n ih =>
    intro c0 c1 hn0 hn1 P h
    exact kb_X5_setup_73 X hT  (fun u0 h => ih _ _ (by omega) (by omega) _ h) (by omega) (by omega) h
theorem kj_X5_setup_66 {p : Program} {l : Launch} {e : Env} {s : State} {m : MethodId} {args : Array Value} {below : List Frame} {meth : Method} {c : Code} {D : zk_G} {g : zk_M} {b0 : Nat} (X : zk_X p s m args meth c D g b0 cX5_setup 3 "LandFolio$Reader" "setup" none) (hT : ∀ x ∈ c.exceptionTable.toList, False) {post : zk_H → Prop} {px : Nat → zk_H → Prop}  {a0 : Option Nat} {s0 : Int32} {s1 : Option Nat} {P : zk_H}    (hh : wj_X5_setup_66 g post px a0 s0 s1 P) : zV p l e ({ frames := 12, cells := 5507, slots := 198065, locals := 281 } : Room) s m args below meth c D b0 3 (25) (930) (zx_MQ below (va_Qv post (zk_B D b0) (zk_A b0)) (zx_X px (zx_B D b0) (zk_A b0)) args s 5507 198065 (zk_A b0)) P 66 [(0, va_rf (a0))] [.int (s0), va_rf (s1)] := by
  have h := hh
  unfold wj_X5_setup_66 at h
  refine zvx_cv X hT (by omega) (by omega) ((zrx_Vl X (As := [.int (s0)]) (rest := []) h (fun a h => wk_X5_takes l h) (zk_l1 ⟨_, rfl, cwV 1 X.hts (lw_V q1038 q1039 q1040 q115 q1041) rfl rfl rfl ⟨rfl, md_X5_takes⟩ ⟨Nat.le_of_ble_eq_true rfl, Nat.le_of_ble_eq_true rfl⟩⟩) rfl rfl (zk_rs (Nat.le_of_ble_eq_true rfl)) dX5_setup_66 ⟨by first | omega | (dsimp only; omega), by first | omega | (dsimp only; omega)⟩)) (fun P66 h => ?_)
  refine zv_aload_n X 0 dX5_setup_69 rfl ?_
  refine zvx_cv X hT (by omega) (by omega) ((zrx_Vl X (As := []) (rest := []) h (fun a h => wk_X5_owner l h) (zk_l1 ⟨_, rfl, cwV 0 X.hts (lw_V q1116 q1118 qs18 q115 q1119) rfl rfl rfl ⟨rfl, md_X5_owner⟩ ⟨Nat.le_of_ble_eq_true rfl, Nat.le_of_ble_eq_true rfl⟩⟩) rfl rfl (zk_rs (Nat.le_of_ble_eq_true rfl)) dX5_setup_70 ⟨by first | omega | (dsimp only; omega), by first | omega | (dsimp only; omega)⟩)) (fun P70 h => ?_)
  refine zv_widen (c2 := 42) (s2 := 1602) (by omega) (by omega) ?_
  exact kl_X5_setup_73 X hT  8 _ _ (by omega) (by omega) _ h
theorem md_X5_setup : yX5_setup.cls ≠ "java/lang/invoke/MethodHandle" ∧ yX5_setup.cls ≠ "java/lang/invoke/VarHandle" ∧ (parseMethodDescriptor yX5_setup.desc).map (fun d => d.parameters.length) = some 0 := by decide +kernel
theorem wk_X5_setup (l : Launch) {D : zk_G} {g : zk_M} {b0 : Nat} {post : zk_H → Prop} {px : Nat → zk_H → Prop} {this : Nat} {P : zk_H} (hh : wp_X5_setup g post px this P) : zx_Met l yX5_setup (ws_ yX5_setup cX5_setup 3 none) ({ frames := 12, cells := 5507, slots := 198065, locals := 281 } : Room) (va_Pc [.ref this] (zk_pre D g b0 P)) (va_Qv post (zk_B D b0) (zk_A b0)) (zx_X px (zx_B D b0) (zk_A b0)) 5507 198065 (zk_A b0) := by
  refine zx_enter "LandFolio$Reader" "setup" rfl rfl (by decide) [.ref this] (Nat.le_of_ble_eq_true rfl) ?_
  intro p e s m args below meth c X hT
  refine zk_at0 (L' := [(0, va_rf (some this))]) (rfl) ?_
  have h := hh
  unfold wp_X5_setup at h
  refine zv_aload_n X 0 dX5_setup_0 rfl ?_
  refine zv_aload_n X 0 dX5_setup_1 rfl ?_
  refine zv_ldcS X (i := 11) rfl dX5_setup_2 ?_
  refine zv_ciR ((zr_Vl X (As := [va_rf (some (g 2))]) (rest := [va_rf (some this)]) h (fun a h => wk_X5_isKey l h) (zk_l1 ⟨_, rfl, cwV 1 X.hts (lw_V q1033 q1035 qs14 q115 q1036) rfl rfl rfl ⟨rfl, md_X5_isKey⟩ ⟨Nat.le_of_ble_eq_true rfl, Nat.le_of_ble_eq_true rfl⟩⟩) rfl rfl (zk_rs (Nat.le_of_ble_eq_true rfl)) dX5_setup_4 ⟨by first | omega | (dsimp only; omega), by first | omega | (dsimp only; omega)⟩)) (fun v4 h => ?_)
  refine zvx_cv X hT (by omega) (by omega) ((zrx_Vl X (As := [.int (v4)]) (rest := []) h (fun a h => wk_X5_takes l h) (zk_l1 ⟨_, rfl, cwV 1 X.hts (lw_V q1038 q1039 q1040 q115 q1041) rfl rfl rfl ⟨rfl, md_X5_takes⟩ ⟨Nat.le_of_ble_eq_true rfl, Nat.le_of_ble_eq_true rfl⟩⟩) rfl rfl (zk_rs (Nat.le_of_ble_eq_true rfl)) dX5_setup_7 ⟨by first | omega | (dsimp only; omega), by first | omega | (dsimp only; omega)⟩)) (fun P7 h => ?_)
  refine zv_aload_n X 0 dX5_setup_10 rfl ?_
  refine zv_iconst X (v := 1) dX5_setup_11 rfl ?_
  refine zv_bipush X (v := 20) dX5_setup_12 rfl ?_
  refine zvx_ci X hT (by omega) (by omega) ((zrx_Vl X (As := [.int (1), .int (20)]) (rest := []) h (fun a h => wk_X5_upTo l h) (zk_l1 ⟨_, rfl, cwV 2 X.hts (lw_V q1106 q1108 qs16 q115 q1109) rfl rfl rfl ⟨rfl, md_X5_upTo⟩ ⟨Nat.le_of_ble_eq_true rfl, Nat.le_of_ble_eq_true rfl⟩⟩) rfl rfl (zk_rs (Nat.le_of_ble_eq_true rfl)) dX5_setup_14 ⟨by first | omega | (dsimp only; omega), by first | omega | (dsimp only; omega)⟩)) (fun v14 P14 h => ?_)
  refine zv_istore_n X (i := 1) (L' := [(1, .int (v14)), (0, va_rf (some this))]) dX5_setup_17 rfl (by decide) rfl ?_
  refine zv_aload_n X 1 dX5_setup_18 rfl ?_
  refine zv_iconst X (v := 1) dX5_setup_19 rfl ?_
  refine zv_bipush X (v := 20) dX5_setup_20 rfl ?_
  refine zvx_ci X hT (by omega) (by omega) ((zrx_Vl X (As := [.int (1), .int (20)]) (rest := []) h (fun a h => wk_X5_upTo l h) (zk_l1 ⟨_, rfl, cwV 2 X.hts (lw_V q1106 q1108 qs16 q115 q1109) rfl rfl rfl ⟨rfl, md_X5_upTo⟩ ⟨Nat.le_of_ble_eq_true rfl, Nat.le_of_ble_eq_true rfl⟩⟩) rfl rfl (zk_rs (Nat.le_of_ble_eq_true rfl)) dX5_setup_22 ⟨by first | omega | (dsimp only; omega), by first | omega | (dsimp only; omega)⟩)) (fun v22 P22 h => ?_)
  refine zv_istore_n X (i := 2) (L' := [(2, .int (v22)), (1, .int (v14)), (0, va_rf (some this))]) dX5_setup_25 rfl (by decide) rfl ?_
  refine zv_aload_n X 2 dX5_setup_26 rfl ?_
  refine zv_aload_n X 2 dX5_setup_27 rfl ?_
  refine zv_ldcS X (i := 12) rfl dX5_setup_28 ?_
  refine zv_ciR ((zr_Vl X (As := [va_rf (some (g 3))]) (rest := [va_rf (some this)]) h (fun a h => wk_X5_isKey l h) (zk_l1 ⟨_, rfl, cwV 1 X.hts (lw_V q1033 q1035 qs14 q115 q1036) rfl rfl rfl ⟨rfl, md_X5_isKey⟩ ⟨Nat.le_of_ble_eq_true rfl, Nat.le_of_ble_eq_true rfl⟩⟩) rfl rfl (zk_rs (Nat.le_of_ble_eq_true rfl)) dX5_setup_30 ⟨by first | omega | (dsimp only; omega), by first | omega | (dsimp only; omega)⟩)) (fun v30 h => ?_)
  refine zvx_cv X hT (by omega) (by omega) ((zrx_Vl X (As := [.int (v30)]) (rest := []) h (fun a h => wk_X5_takes l h) (zk_l1 ⟨_, rfl, cwV 1 X.hts (lw_V q1038 q1039 q1040 q115 q1041) rfl rfl rfl ⟨rfl, md_X5_takes⟩ ⟨Nat.le_of_ble_eq_true rfl, Nat.le_of_ble_eq_true rfl⟩⟩) rfl rfl (zk_rs (Nat.le_of_ble_eq_true rfl)) dX5_setup_33 ⟨by first | omega | (dsimp only; omega), by first | omega | (dsimp only; omega)⟩)) (fun P33 h => ?_)
  refine zv_aload_n X 2 dX5_setup_36 rfl ?_
  refine zv_getf_r X fo_q1005 dX5_setup_37 h (fun v37 h => ?_)
  refine zv_iload_n X 1 dX5_setup_40 rfl ?_
  refine zv_iload_n X 0 dX5_setup_41 rfl ?_
  refine zv_aload_n X 2 dX5_setup_42 rfl ?_
  refine zv_iconst X (v := 1) dX5_setup_43 rfl ?_
  refine zv_bipush X (v := 99) dX5_setup_44 rfl ?_
  refine zvx_ci X hT (by omega) (by omega) ((zrx_Vl X (As := [.int (1), .int (99)]) (rest := [.int (v22), .int (v14), va_rf (v37)]) h (fun a h => wk_X5_upTo l h) (zk_l1 ⟨_, rfl, cwV 2 X.hts (lw_V q1106 q1108 qs16 q115 q1109) rfl rfl rfl ⟨rfl, md_X5_upTo⟩ ⟨Nat.le_of_ble_eq_true rfl, Nat.le_of_ble_eq_true rfl⟩⟩) rfl rfl (zk_rs (Nat.le_of_ble_eq_true rfl)) dX5_setup_46 ⟨by first | omega | (dsimp only; omega), by first | omega | (dsimp only; omega)⟩)) (fun v46 P46 h => ?_)
  refine zv_cv ((zr_Vl X (As := [.int (v14), .int (v22), .int (v46)]) (rest := []) h (fun a h => wk_X1_begins l h) (zk_l1 ⟨_, rfl, cwV 3 X.hts (lw_V q1115 q297 q298 q103 q299) rfl rfl rfl ⟨rfl, md_X1_begins⟩ ⟨Nat.le_of_ble_eq_true rfl, Nat.le_of_ble_eq_true rfl⟩⟩) rfl rfl (zk_rs (Nat.le_of_ble_eq_true rfl)) dX5_setup_49 ⟨by first | omega | (dsimp only; omega), by first | omega | (dsimp only; omega)⟩)) (fun P49 h => ?_)
  refine zv_aload_n X 2 dX5_setup_52 rfl ?_
  refine zv_aload_n X 2 dX5_setup_53 rfl ?_
  refine zv_getf_i X fo_q1009 dX5_setup_54 h (fun v54 h => ?_)
  refine zv_iconst X (v := 4) dX5_setup_57 rfl ?_
  refine zv_icmp_ne X (tgt := 65) dX5_setup_58 (by decide) h (fun h => ?_) (fun h => ?_)
  · refine zv_iconst X (v := 0) dX5_setup_65 rfl ?_
    refine zv_sub (L' := [(0, va_rf (some this))]) [2] rfl ?_
    refine zv_widen (c2 := 25) (s2 := 930) (by first | omega | (dsimp only; omega)) (by first | omega | (dsimp only; omega)) ?_
    exact kj_X5_setup_66 X hT  h
  · refine zv_iconst X (v := 1) dX5_setup_61 rfl ?_
    refine zv_goto X (tgt := 66) dX5_setup_62 (by decide) ?_
    refine zv_sub (L' := [(0, va_rf (some this))]) [2] rfl ?_
    refine zv_widen (c2 := 25) (s2 := 930) (by first | omega | (dsimp only; omega)) (by first | omega | (dsimp only; omega)) ?_
    exact kj_X5_setup_66 X hT  h
theorem md_X5_init : yX5_init.cls ≠ "java/lang/invoke/MethodHandle" ∧ yX5_init.cls ≠ "java/lang/invoke/VarHandle" ∧ (parseMethodDescriptor yX5_init.desc).map (fun d => d.parameters.length) = some 1 := by decide +kernel
theorem wk_X5_init (l : Launch) {D : zk_G} {g : zk_M} {b0 : Nat} {post : zk_H → Prop} {this : Nat} {x1 : Option Nat} {P : zk_H} (hh : wp_X5_init g post this x1 P) : Met l yX5_init (ws_ yX5_init cX5_init 2 none) ({ frames := 8, cells := 10, slots := 168, locals := 192 } : Room) (va_Pc [.ref this, va_rf (x1)] (zk_pre D g b0 P)) (va_Qv post (zk_B D b0) (zk_A b0)) 10 168 (zk_A b0) := by
  refine zk_enter "LandFolio$Reader" "<init>" rfl rfl (plainFor_of_name (by decide)) [.ref this, va_rf (x1)] (by cases x1 <;> exact Nat.le_of_ble_eq_true rfl) ?_
  intro p e s m args below meth c X
  refine zk_at0 (L' := [(0, va_rf (some this)), (1, va_rf (x1))]) (by cases x1 <;> rfl) ?_
  have h := hh
  unfold wp_X5_init at h
  refine zv_aload_n X 0 dX5_init_0 rfl ?_
  refine zv_aload_n X 1 dX5_init_1 rfl ?_
  refine zv_put_r X fp_q1012 (zk_tyO _) (fun _ => rfl) dX5_init_2 h (fun P2 h => ?_)
  refine zv_aload_n X 0 dX5_init_5 rfl ?_
  refine zv_objInit X q733 dX5_init_6 (by decide) (by decide) (by decide) ?_
  refine zv_aload_n X 0 dX5_init_9 rfl ?_
  refine zv_new X zk_nc1 q734 (by first | exact Nat.le_of_ble_eq_true rfl | omega | (dsimp only; omega)) (by first | exact Nat.le_of_ble_eq_true rfl | omega | (dsimp only; omega)) dX5_init_10 h (fun v10 P10 h => ?_)
  refine zv_dup X dX5_init_13 (zk_rc _) ?_
  refine zv_cv ((zr_IN X (As := []) (rest := [va_rf (some v10), va_rf (some this)]) (wk_X1_init l h) ⟨zk_cwN X 0 q735 (lw_meth q155) q103 md_X1_init ⟨Nat.le_of_ble_eq_true rfl, Nat.le_of_ble_eq_true rfl⟩, rfl, q154⟩ rfl rfl (zk_rs (Nat.le_of_ble_eq_true rfl)) dX5_init_14 ⟨by first | exact Nat.le_of_ble_eq_true rfl | omega | (dsimp only; omega), by first | exact Nat.le_of_ble_eq_true rfl | omega | (dsimp only; omega)⟩)) (fun P14 h => ?_)
  refine zv_put_r X fp_q1005 (zk_tyO _) (fun _ => rfl) dX5_init_17 h (fun P17 h => ?_)
  refine zv_aload_n X 0 dX5_init_20 rfl ?_
  refine zv_ldcS X (i := 1) rfl dX5_init_21 ?_
  refine zv_put_r X fp_q1010 (zk_tyO _) (fun z => by cases z) dX5_init_23 h (fun P23 h => ?_)
  refine zv_aload_n X 0 dX5_init_26 rfl ?_
  refine zv_cv ((zr_Vl X (As := []) (rest := []) h (fun a h => wk_X5_next l h) (zk_l1 ⟨_, rfl, cwV 0 X.hts (lw_V q737 q738 q739 q115 q740) rfl rfl rfl ⟨rfl, md_X5_next⟩ ⟨Nat.le_of_ble_eq_true rfl, Nat.le_of_ble_eq_true rfl⟩⟩) rfl rfl (zk_rs (Nat.le_of_ble_eq_true rfl)) dX5_init_27 ⟨by first | exact Nat.le_of_ble_eq_true rfl | omega | (dsimp only; omega), by first | exact Nat.le_of_ble_eq_true rfl | omega | (dsimp only; omega)⟩)) (fun P27 h => ?_)
  exact zv_vret X rfl (by first | exact Nat.le_of_ble_eq_true rfl | omega | (dsimp only; omega)) (by first | exact Nat.le_of_ble_eq_true rfl | omega | (dsimp only; omega)) dX5_init_30 h
theorem md_X0_load : yX0_load.cls ≠ "java/lang/invoke/MethodHandle" ∧ yX0_load.cls ≠ "java/lang/invoke/VarHandle" ∧ (parseMethodDescriptor yX0_load.desc).map (fun d => d.parameters.length) = some 0 := by decide +kernel
theorem wk_X0_load (l : Launch) {D : zk_G} {g : zk_M} {b0 : Nat} {post : Int32 → zk_H → Prop} {this : Nat} {P : zk_H} (hh : wp_X0_load g post this P) : Met l yX0_load (wsW_ yX0_load cX0_load 5 (some Jvm.ClassFile.FieldType.int) hh_X0_load) ({ frames := 13, cells := 5518, slots := 198240, locals := 303 } : Room) (va_Pc [.ref this] (zk_pre D g b0 P)) (va_Qi post (zk_B D b0) (zk_A b0)) 5518 198240 (zk_A b0) := by
  refine zk_enterW "LandFolio" "load" rfl rfl (by decide) [.ref this] (Nat.le_of_ble_eq_true rfl) ?_
  intro p e s m args below meth c X hH
  refine zk_at0 (L' := [(0, va_rf (some this))]) (rfl) ?_
  have h := hh
  unfold wp_X0_load at h
  refine zv_new X zk_nc5 q728 (by first | omega | (dsimp only; omega)) (by first | omega | (dsimp only; omega)) dX0_load_0 h (fun v0 P0 h => ?_)
  refine zv_dup X dX0_load_3 (zk_rc _) ?_
  refine zv_aload_n X 0 dX0_load_4 rfl ?_
  refine zv_cv ((zr_I X (As := [va_rf (some this)]) (rest := [va_rf (some v0)]) (wk_X5_init l h) (cwI 1 X.hts (lw_meth q732) rfl rfl rfl (X.w q115) (X.w q730) (X.w q731) rfl md_X5_init ⟨Nat.le_of_ble_eq_true rfl, Nat.le_of_ble_eq_true rfl⟩) rfl rfl (zk_rs (Nat.le_of_ble_eq_true rfl)) dX0_load_5 ⟨by first | omega | (dsimp only; omega), by first | omega | (dsimp only; omega)⟩)) (fun P5 h => ?_)
  refine zv_astore_n X (i := 1) (L' := [(1, va_rf (some v0)), (0, va_rf (some this))]) dX0_load_8 rfl (by decide) rfl ?_
  refine zv_aload_n X 0 dX0_load_9 rfl ?_
  refine zv_cvH X hH ((zrx_Vl X (As := []) (rest := []) h (fun a h => wk_X5_setup l h) (zk_l1 ⟨_, rfl, cwV 0 X.hts (lw_V q1028 q1029 q1030 q115 q1031) rfl rfl rfl ⟨rfl, md_X5_setup⟩ ⟨Nat.le_of_ble_eq_true rfl, Nat.le_of_ble_eq_true rfl⟩⟩) rfl rfl (zk_rs (Nat.le_of_ble_eq_true rfl)) dX0_load_10 ⟨by first | omega | (dsimp only; omega), by first | omega | (dsimp only; omega)⟩)) (fun q9 P9 h => ?_) (fun P10 h => ?_)
  · refine zv_astore_n X (i := 2) (L' := [(2, va_rf (some q9)), (1, va_rf (some v0)), (0, va_rf (some this))]) dX0_load_27 rfl (by decide) rfl ?_
    refine zv_aload_n X 2 dX0_load_28 rfl ?_
    refine zv_aload_n X 0 dX0_load_29 rfl ?_
    refine zv_getf_i X fo_q1090 dX0_load_30 h (fun v30 h => ?_)
    refine zv_put_i X fp_q409 (fun z => by cases z) dX0_load_33 h (fun P33 h => ?_)
    refine zv_iconst X (v := -1) dX0_load_36 rfl ?_
    refine zv_istore_n X (i := 3) (L' := [(3, .int (-1)), (2, va_rf (some q9)), (1, va_rf (some v0)), (0, va_rf (some this))]) dX0_load_37 rfl (by decide) rfl ?_
    refine zv_aload_n X 3 dX0_load_38 rfl ?_
    refine zv_iconst X (v := 0) dX0_load_39 rfl ?_
    refine zv_put_i X fp_q408 (fun z => by cases z) dX0_load_40 h (fun P40 h => ?_)
    refine zv_iload_n X 0 dX0_load_43 rfl ?_
    exact zv_iret X rfl (by first | omega | (dsimp only; omega)) (by first | omega | (dsimp only; omega)) dX0_load_44 h
  · refine zv_aload_n X 1 dX0_load_13 rfl ?_
    refine zv_bipush X (v := -2) dX0_load_14 rfl ?_
    refine zv_put_i X fp_q409 (fun z => by cases z) dX0_load_16 h (fun P16 h => ?_)
    refine zv_aload_n X 1 dX0_load_19 rfl ?_
    refine zv_iconst X (v := 0) dX0_load_20 rfl ?_
    refine zv_put_i X fp_q408 (fun z => by cases z) dX0_load_21 h (fun P21 h => ?_)
    refine zv_goto X (tgt := 55) dX0_load_24 (by decide) ?_
    refine zv_aload_n X 1 dX0_load_55 rfl ?_
    refine zv_aload_n X 0 dX0_load_56 rfl ?_
    refine zv_getf_r X fo_q1006 dX0_load_57 h (fun v57 h => ?_)
    refine zv_put_r X fp_q402 (zk_tyO _) (fun z => by cases z) dX0_load_60 h (fun P60 h => ?_)
    refine zv_aload_n X 1 dX0_load_63 rfl ?_
    refine zv_getf_r X fo_q403 dX0_load_64 h (fun v64 h => ?_)
    refine zv_cv ((zr_Vl X (As := []) (rest := []) h (fun a h => wk_J6_clear l h) (zk_l1 ⟨_, rfl, cwV 0 X.hts (lw_V q1297 q1298 q1299 q113 q1300) rfl rfl rfl ⟨rfl, md_J6_clear⟩ ⟨Nat.le_of_ble_eq_true rfl, Nat.le_of_ble_eq_true rfl⟩⟩) rfl rfl (zk_rs (Nat.le_of_ble_eq_true rfl)) dX0_load_67 ⟨by first | omega | (dsimp only; omega), by first | omega | (dsimp only; omega)⟩)) (fun P67 h => ?_)
    refine zv_aload_n X 1 dX0_load_70 rfl ?_
    refine zv_getf_r X fo_q404 dX0_load_71 h (fun v71 h => ?_)
    refine zv_iconst X (v := 0) dX0_load_74 rfl ?_
    refine zv_null X dX0_load_75 ?_
    refine zv_aast X zk_mayok dX0_load_76 h (fun P76 h => ?_)
    refine zv_aload_n X 1 dX0_load_77 rfl ?_
    refine zv_getf_r X fo_q404 dX0_load_78 h (fun v78 h => ?_)
    refine zv_iconst X (v := 1) dX0_load_81 rfl ?_
    refine zv_null X dX0_load_82 ?_
    refine zv_aast X zk_mayok dX0_load_83 h (fun P83 h => ?_)
    refine zv_aload_n X 1 dX0_load_84 rfl ?_
    refine zv_getf_r X fo_q402 dX0_load_85 h (fun v85 h => ?_)
    refine zv_getf_r X fo_q195 dX0_load_88 h (fun v88 h => ?_)
    refine zv_ciR ((zr_Vl X (As := []) (rest := []) h (fun a h => wk_J2_size l h) (zk_l1 ⟨_, rfl, cwV 0 X.hts (lw_V q672 q362 q363 q106 q364) rfl rfl rfl ⟨rfl, md_J2_size⟩ ⟨Nat.le_of_ble_eq_true rfl, Nat.le_of_ble_eq_true rfl⟩⟩) rfl rfl (zk_rs (Nat.le_of_ble_eq_true rfl)) dX0_load_91 ⟨by first | omega | (dsimp only; omega), by first | omega | (dsimp only; omega)⟩)) (fun v91 h => ?_)
    exact zv_iret X rfl (by first | omega | (dsimp only; omega)) (by first | omega | (dsimp only; omega)) dX0_load_94 h
theorem md_X11_values : yX11_values.cls ≠ "java/lang/invoke/MethodHandle" ∧ yX11_values.cls ≠ "java/lang/invoke/VarHandle" ∧ (parseMethodDescriptor yX11_values.desc).map (fun d => d.parameters.length) = some 0 := by decide +kernel
theorem wk_X11_values (l : Launch) {D : zk_G} {g : zk_M} {b0 : Nat} {post : Option Nat → zk_H → Prop}  {P : zk_H} (hh : wp_X11_values g post P) : Met l yX11_values (ws_ yX11_values cX11_values 0 (some (Jvm.ClassFile.FieldType.array (Jvm.ClassFile.FieldType.object "LandFolio$Reason")))) ({ frames := 1, cells := 1, slots := 6, locals := 22 } : Room) (va_Pc [] (zk_pre D g b0 P)) (va_Qq post (zk_B D b0) (zk_A b0)) 1 6 (zk_A b0) := by
  refine zk_enter "LandFolio$Reason" "values" rfl rfl (plainFor_of_name (by decide)) [] (Nat.le_of_ble_eq_true rfl) ?_
  intro p e s m args below meth c X
  refine zk_at0 (L' := []) (rfl) ?_
  have h := hh
  unfold wp_X11_values at h
  refine zv_gets X (i := 5) rfl q1391 rfl dX11_values_0 ?_
  refine zv_clone X (ty := (.object "LandFolio$Reason")) (by decide +kernel) (by decide) q1393 q1394 q1395 (zk_nwm q1396 rfl) ⟨by first | decide | (dsimp only; decide), by first | decide | (dsimp only; decide)⟩ (zk_rs (Nat.le_of_ble_eq_true rfl)) (by first | exact Nat.le_of_ble_eq_true rfl | omega | (dsimp only; omega)) (by first | exact Nat.le_of_ble_eq_true rfl | omega | (dsimp only; omega)) dX11_values_3 h (fun v3 P3 h => ?_)
  refine zv_castA X (ty := (.object "LandFolio$Reason")) (by decide +kernel) q1398 dX11_values_6 h (fun h => ?_)
  exact zv_aret X rfl (Or.inr ⟨_, rfl⟩) (by first | exact Nat.le_of_ble_eq_true rfl | omega | (dsimp only; omega)) (by first | exact Nat.le_of_ble_eq_true rfl | omega | (dsimp only; omega)) dX11_values_9 h
theorem md_X14_holds : yX14_holds.cls ≠ "java/lang/invoke/MethodHandle" ∧ yX14_holds.cls ≠ "java/lang/invoke/VarHandle" ∧ (parseMethodDescriptor yX14_holds.desc).map (fun d => d.parameters.length) = some 3 := by decide +kernel
theorem wk_X14_holds (l : Launch) {D : zk_G} {g : zk_M} {b0 : Nat} {post : Int32 → Prop} {this : Nat} {x1 : Option Nat} {x2 : Int32} {x3 : Int32} {P : zk_H} (hh : wp_X14_holds post this x1 x2 x3) : zu_Met l yX14_holds (ws_ yX14_holds cX14_holds 4 (some Jvm.ClassFile.FieldType.boolean)) ({ frames := 0, cells := 0, slots := 0, locals := 0 } : Room) (va_Pc [.ref this, va_rf (x1), .int (x2), .int (x3)] (zk_pre D g b0 P)) (va_Qi (fun r u => post r ∧ u = P) (zk_B D b0) (zk_A b0)) 0 0 (zk_A b0) := by
  refine zu_enter "LandFolio$Reason$1" "holds" rfl rfl (plainFor_of_name (by decide)) [.ref this, va_rf (x1), .int (x2), .int (x3)] (by cases x1 <;> exact Nat.le_of_ble_eq_true rfl) ?_
  intro p e s m args below meth c X
  refine zk_at0 (L' := [(0, va_rf (some this)), (1, va_rf (x1)), (2, .int (x2)), (3, .int (x3))]) (by cases x1 <;> rfl) ?_
  have h := hh
  unfold wp_X14_holds at h
  refine zv_iconst X (v := 0) dX14_holds_0 rfl ?_
  exact zv_zret X (ty := .boolean) rfl (by first | exact Nat.le_of_ble_eq_true rfl | omega | (dsimp only; omega)) (by first | exact Nat.le_of_ble_eq_true rfl | omega | (dsimp only; omega)) dX14_holds_1 ⟨rfl, ⟨h, rfl⟩⟩
theorem kj_X15_holds_22 {p : Program} {l : Launch} {e : Env} {s : State} {m : MethodId} {args : Array Value} {below : List Frame} {meth : Method} {c : Code} {D : zk_G} {g : zk_M} {b0 : Nat} (X : zk_X p s m args meth c D g b0 cX15_holds 4 "LandFolio$Reason$2" "holds" (some Jvm.ClassFile.FieldType.boolean)) {post : Int32 → Prop}   {P : zk_H}    (hh : wj_X15_holds_22 post P) : zV p l e ({ frames := 4, cells := 0, slots := 0, locals := 85 } : Room) s m args below meth c D b0 4 (0) (0) (MQ below (va_Qi (fun r u => post r ∧ u = P) (zk_B D b0) (zk_A b0)) args s 0 0 (zk_A b0)) P 22 [] [] := by
  have h := hh
  unfold wj_X15_holds_22 at h
  refine zv_iconst X (v := 1) dX15_holds_22 rfl ?_
  refine zv_goto X (tgt := 27) dX15_holds_23 (by decide) ?_
  exact zv_zret X (ty := .boolean) rfl (by first | exact Nat.le_of_ble_eq_true rfl | omega | (dsimp only; omega)) (by first | exact Nat.le_of_ble_eq_true rfl | omega | (dsimp only; omega)) dX15_holds_27 ⟨rfl, ⟨h, rfl⟩⟩
theorem md_X15_holds : yX15_holds.cls ≠ "java/lang/invoke/MethodHandle" ∧ yX15_holds.cls ≠ "java/lang/invoke/VarHandle" ∧ (parseMethodDescriptor yX15_holds.desc).map (fun d => d.parameters.length) = some 3 := by decide +kernel
theorem wk_X15_holds (l : Launch) {D : zk_G} {g : zk_M} {b0 : Nat} {post : Int32 → Prop} {this : Nat} {x1 : Option Nat} {x2 : Int32} {x3 : Int32} {P : zk_H} (hh : wp_X15_holds post this x1 x2 x3 P) : zu_Met l yX15_holds (ws_ yX15_holds cX15_holds 4 (some Jvm.ClassFile.FieldType.boolean)) ({ frames := 4, cells := 0, slots := 0, locals := 85 } : Room) (va_Pc [.ref this, va_rf (x1), .int (x2), .int (x3)] (zk_pre D g b0 P)) (va_Qi (fun r u => post r ∧ u = P) (zk_B D b0) (zk_A b0)) 0 0 (zk_A b0) := by
  refine zu_enter "LandFolio$Reason$2" "holds" rfl rfl (plainFor_of_name (by decide)) [.ref this, va_rf (x1), .int (x2), .int (x3)] (by cases x1 <;> exact Nat.le_of_ble_eq_true rfl) ?_
  intro p e s m args below meth c X
  refine zk_at0 (L' := [(0, va_rf (some this)), (1, va_rf (x1)), (2, .int (x2)), (3, .int (x3))]) (by cases x1 <;> rfl) ?_
  have h := hh
  unfold wp_X15_holds at h
  refine zv_aload_n X 1 dX15_holds_0 rfl ?_
  refine zv_iload_n X 2 dX15_holds_1 rfl ?_
  refine zv_cqR ((zr_Vl X (As := [.int (x2)]) (rest := []) h (fun a h => wk_X1_parcel l h) (zk_l1 ⟨_, rfl, cwV 1 X.hts (lw_V q1408 q502 q503 q103 q504) rfl rfl rfl ⟨rfl, md_X1_parcel⟩ ⟨Nat.le_of_ble_eq_true rfl, Nat.le_of_ble_eq_true rfl⟩⟩) rfl rfl (zk_rs (Nat.le_of_ble_eq_true rfl)) dX15_holds_2 ⟨by first | exact Nat.le_of_ble_eq_true rfl | omega | (dsimp only; omega), by first | exact Nat.le_of_ble_eq_true rfl | omega | (dsimp only; omega)⟩)) (fun v2 h => ?_)
  refine zv_ciR ((zr_Vl X (As := []) (rest := []) h (fun a h => wk_X2_isLive l h) (zk_l1 ⟨_, rfl, cwV 0 X.hts (lw_V q1409 q1177 q1178 q111 q1179) rfl rfl rfl ⟨rfl, md_X2_isLive⟩ ⟨Nat.le_of_ble_eq_true rfl, Nat.le_of_ble_eq_true rfl⟩⟩) rfl rfl (zk_rs (Nat.le_of_ble_eq_true rfl)) dX15_holds_5 ⟨by first | exact Nat.le_of_ble_eq_true rfl | omega | (dsimp only; omega), by first | exact Nat.le_of_ble_eq_true rfl | omega | (dsimp only; omega)⟩)) (fun v5 h => ?_)
  refine zv_if_eq X (tgt := 22) dX15_holds_8 (by decide) h (fun h => ?_) (fun h => ?_)
  · refine zv_sub (L' := []) [] rfl ?_
    exact kj_X15_holds_22 X  h
  · refine zv_aload_n X 1 dX15_holds_11 rfl ?_
    refine zv_iload_n X 3 dX15_holds_12 rfl ?_
    refine zv_cqR ((zr_Vl X (As := [.int (x3)]) (rest := []) h (fun a h => wk_X1_parcel l h) (zk_l1 ⟨_, rfl, cwV 1 X.hts (lw_V q1408 q502 q503 q103 q504) rfl rfl rfl ⟨rfl, md_X1_parcel⟩ ⟨Nat.le_of_ble_eq_true rfl, Nat.le_of_ble_eq_true rfl⟩⟩) rfl rfl (zk_rs (Nat.le_of_ble_eq_true rfl)) dX15_holds_13 ⟨by first | exact Nat.le_of_ble_eq_true rfl | omega | (dsimp only; omega), by first | exact Nat.le_of_ble_eq_true rfl | omega | (dsimp only; omega)⟩)) (fun v13 h => ?_)
    refine zv_ciR ((zr_Vl X (As := []) (rest := []) h (fun a h => wk_X2_isLive l h) (zk_l1 ⟨_, rfl, cwV 0 X.hts (lw_V q1409 q1177 q1178 q111 q1179) rfl rfl rfl ⟨rfl, md_X2_isLive⟩ ⟨Nat.le_of_ble_eq_true rfl, Nat.le_of_ble_eq_true rfl⟩⟩) rfl rfl (zk_rs (Nat.le_of_ble_eq_true rfl)) dX15_holds_16 ⟨by first | exact Nat.le_of_ble_eq_true rfl | omega | (dsimp only; omega), by first | exact Nat.le_of_ble_eq_true rfl | omega | (dsimp only; omega)⟩)) (fun v16 h => ?_)
    refine zv_if_ne X (tgt := 26) dX15_holds_19 (by decide) h (fun h => ?_) (fun h => ?_)
    · refine zv_iconst X (v := 0) dX15_holds_26 rfl ?_
      exact zv_zret X (ty := .boolean) rfl (by first | exact Nat.le_of_ble_eq_true rfl | omega | (dsimp only; omega)) (by first | exact Nat.le_of_ble_eq_true rfl | omega | (dsimp only; omega)) dX15_holds_27 ⟨rfl, ⟨h, rfl⟩⟩
    · refine zv_sub (L' := []) [] rfl ?_
      exact kj_X15_holds_22 X  h
theorem kj_X16_holds_22 {p : Program} {l : Launch} {e : Env} {s : State} {m : MethodId} {args : Array Value} {below : List Frame} {meth : Method} {c : Code} {D : zk_G} {g : zk_M} {b0 : Nat} (X : zk_X p s m args meth c D g b0 cX16_holds 4 "LandFolio$Reason$3" "holds" (some Jvm.ClassFile.FieldType.boolean)) {post : Int32 → Prop}   {P : zk_H}    (hh : wj_X16_holds_22 post P) : zV p l e ({ frames := 4, cells := 0, slots := 0, locals := 85 } : Room) s m args below meth c D b0 4 (0) (0) (MQ below (va_Qi (fun r u => post r ∧ u = P) (zk_B D b0) (zk_A b0)) args s 0 0 (zk_A b0)) P 22 [] [] := by
  have h := hh
  unfold wj_X16_holds_22 at h
  refine zv_iconst X (v := 1) dX16_holds_22 rfl ?_
  refine zv_goto X (tgt := 27) dX16_holds_23 (by decide) ?_
  exact zv_zret X (ty := .boolean) rfl (by first | exact Nat.le_of_ble_eq_true rfl | omega | (dsimp only; omega)) (by first | exact Nat.le_of_ble_eq_true rfl | omega | (dsimp only; omega)) dX16_holds_27 ⟨rfl, ⟨h, rfl⟩⟩
theorem md_X16_holds : yX16_holds.cls ≠ "java/lang/invoke/MethodHandle" ∧ yX16_holds.cls ≠ "java/lang/invoke/VarHandle" ∧ (parseMethodDescriptor yX16_holds.desc).map (fun d => d.parameters.length) = some 3 := by decide +kernel
theorem wk_X16_holds (l : Launch) {D : zk_G} {g : zk_M} {b0 : Nat} {post : Int32 → Prop} {this : Nat} {x1 : Option Nat} {x2 : Int32} {x3 : Int32} {P : zk_H} (hh : wp_X16_holds post this x1 x2 x3 P) : zu_Met l yX16_holds (ws_ yX16_holds cX16_holds 4 (some Jvm.ClassFile.FieldType.boolean)) ({ frames := 4, cells := 0, slots := 0, locals := 85 } : Room) (va_Pc [.ref this, va_rf (x1), .int (x2), .int (x3)] (zk_pre D g b0 P)) (va_Qi (fun r u => post r ∧ u = P) (zk_B D b0) (zk_A b0)) 0 0 (zk_A b0) := by
  refine zu_enter "LandFolio$Reason$3" "holds" rfl rfl (plainFor_of_name (by decide)) [.ref this, va_rf (x1), .int (x2), .int (x3)] (by cases x1 <;> exact Nat.le_of_ble_eq_true rfl) ?_
  intro p e s m args below meth c X
  refine zk_at0 (L' := [(0, va_rf (some this)), (1, va_rf (x1)), (2, .int (x2)), (3, .int (x3))]) (by cases x1 <;> rfl) ?_
  have h := hh
  unfold wp_X16_holds at h
  refine zv_aload_n X 1 dX16_holds_0 rfl ?_
  refine zv_iload_n X 2 dX16_holds_1 rfl ?_
  refine zv_cqR ((zr_Vl X (As := [.int (x2)]) (rest := []) h (fun a h => wk_X1_parcel l h) (zk_l1 ⟨_, rfl, cwV 1 X.hts (lw_V q1413 q502 q503 q103 q504) rfl rfl rfl ⟨rfl, md_X1_parcel⟩ ⟨Nat.le_of_ble_eq_true rfl, Nat.le_of_ble_eq_true rfl⟩⟩) rfl rfl (zk_rs (Nat.le_of_ble_eq_true rfl)) dX16_holds_2 ⟨by first | exact Nat.le_of_ble_eq_true rfl | omega | (dsimp only; omega), by first | exact Nat.le_of_ble_eq_true rfl | omega | (dsimp only; omega)⟩)) (fun v2 h => ?_)
  refine zv_getf_i X fo_q329 dX16_holds_5 h (fun v5 h => ?_)
  refine zv_if_ne X (tgt := 22) dX16_holds_8 (by decide) h (fun h => ?_) (fun h => ?_)
  · refine zv_sub (L' := []) [] rfl ?_
    exact kj_X16_holds_22 X  h
  · refine zv_aload_n X 1 dX16_holds_11 rfl ?_
    refine zv_iload_n X 3 dX16_holds_12 rfl ?_
    refine zv_cqR ((zr_Vl X (As := [.int (x3)]) (rest := []) h (fun a h => wk_X1_parcel l h) (zk_l1 ⟨_, rfl, cwV 1 X.hts (lw_V q1413 q502 q503 q103 q504) rfl rfl rfl ⟨rfl, md_X1_parcel⟩ ⟨Nat.le_of_ble_eq_true rfl, Nat.le_of_ble_eq_true rfl⟩⟩) rfl rfl (zk_rs (Nat.le_of_ble_eq_true rfl)) dX16_holds_13 ⟨by first | exact Nat.le_of_ble_eq_true rfl | omega | (dsimp only; omega), by first | exact Nat.le_of_ble_eq_true rfl | omega | (dsimp only; omega)⟩)) (fun v13 h => ?_)
    refine zv_getf_i X fo_q329 dX16_holds_16 h (fun v16 h => ?_)
    refine zv_if_eq X (tgt := 26) dX16_holds_19 (by decide) h (fun h => ?_) (fun h => ?_)
    · refine zv_iconst X (v := 0) dX16_holds_26 rfl ?_
      exact zv_zret X (ty := .boolean) rfl (by first | exact Nat.le_of_ble_eq_true rfl | omega | (dsimp only; omega)) (by first | exact Nat.le_of_ble_eq_true rfl | omega | (dsimp only; omega)) dX16_holds_27 ⟨rfl, ⟨h, rfl⟩⟩
    · refine zv_sub (L' := []) [] rfl ?_
      exact kj_X16_holds_22 X  h
theorem kj_X2_makesOblong_88 {p : Program} {l : Launch} {e : Env} {s : State} {m : MethodId} {args : Array Value} {below : List Frame} {meth : Method} {c : Code} {D : zk_G} {g : zk_M} {b0 : Nat} (X : zk_X p s m args meth c D g b0 cX2_makesOblong 4 "LandFolio$Parcel" "makesOblong" (some Jvm.ClassFile.FieldType.boolean)) {post : Int32 → Prop}   {P : zk_H}    (hh : wj_X2_makesOblong_88 post P) : zV p l e ({ frames := 3, cells := 0, slots := 0, locals := 67 } : Room) s m args below meth c D b0 4 (0) (0) (MQ below (va_Qi (fun r u => post r ∧ u = P) (zk_B D b0) (zk_A b0)) args s 0 0 (zk_A b0)) P 88 [] [] := by
  have h := hh
  unfold wj_X2_makesOblong_88 at h
  refine zv_iconst X (v := 1) dX2_makesOblong_88 rfl ?_
  refine zv_goto X (tgt := 93) dX2_makesOblong_89 (by decide) ?_
  exact zv_zret X (ty := .boolean) rfl (by first | exact Nat.le_of_ble_eq_true rfl | omega | (dsimp only; omega)) (by first | exact Nat.le_of_ble_eq_true rfl | omega | (dsimp only; omega)) dX2_makesOblong_93 ⟨rfl, ⟨h, rfl⟩⟩
theorem kj_X2_makesOblong_79 {p : Program} {l : Launch} {e : Env} {s : State} {m : MethodId} {args : Array Value} {below : List Frame} {meth : Method} {c : Code} {D : zk_G} {g : zk_M} {b0 : Nat} (X : zk_X p s m args meth c D g b0 cX2_makesOblong 4 "LandFolio$Parcel" "makesOblong" (some Jvm.ClassFile.FieldType.boolean)) {post : Int32 → Prop}  {a2 : Int32} {s0 : Int32} {P : zk_H}    (hh : wj_X2_makesOblong_79 post a2 s0 P) : zV p l e ({ frames := 3, cells := 0, slots := 0, locals := 67 } : Room) s m args below meth c D b0 4 (0) (0) (MQ below (va_Qi (fun r u => post r ∧ u = P) (zk_B D b0) (zk_A b0)) args s 0 0 (zk_A b0)) P 79 [(2, .int (a2))] [.int (s0)] := by
  have h := hh
  unfold wj_X2_makesOblong_79 at h
  refine zv_istore_n X (i := 3) (L' := [(3, .int (s0)), (2, .int (a2))]) dX2_makesOblong_79 rfl (by decide) rfl ?_
  refine zv_iload_n X 1 dX2_makesOblong_80 rfl ?_
  refine zv_if_ne X (tgt := 88) dX2_makesOblong_81 (by decide) h (fun h => ?_) (fun h => ?_)
  · refine zv_sub (L' := []) [] rfl ?_
    exact kj_X2_makesOblong_88 X  h
  · refine zv_iload_n X 0 dX2_makesOblong_84 rfl ?_
    refine zv_if_eq X (tgt := 92) dX2_makesOblong_85 (by decide) h (fun h => ?_) (fun h => ?_)
    · refine zv_iconst X (v := 0) dX2_makesOblong_92 rfl ?_
      exact zv_zret X (ty := .boolean) rfl (by first | exact Nat.le_of_ble_eq_true rfl | omega | (dsimp only; omega)) (by first | exact Nat.le_of_ble_eq_true rfl | omega | (dsimp only; omega)) dX2_makesOblong_93 ⟨rfl, ⟨h, rfl⟩⟩
    · refine zv_sub (L' := []) [] rfl ?_
      exact kj_X2_makesOblong_88 X  h
theorem kj_X2_makesOblong_78 {p : Program} {l : Launch} {e : Env} {s : State} {m : MethodId} {args : Array Value} {below : List Frame} {meth : Method} {c : Code} {D : zk_G} {g : zk_M} {b0 : Nat} (X : zk_X p s m args meth c D g b0 cX2_makesOblong 4 "LandFolio$Parcel" "makesOblong" (some Jvm.ClassFile.FieldType.boolean)) {post : Int32 → Prop}  {a2 : Int32} {P : zk_H}    (hh : wj_X2_makesOblong_78 post a2 P) : zV p l e ({ frames := 3, cells := 0, slots := 0, locals := 67 } : Room) s m args below meth c D b0 4 (0) (0) (MQ below (va_Qi (fun r u => post r ∧ u = P) (zk_B D b0) (zk_A b0)) args s 0 0 (zk_A b0)) P 78 [(2, .int (a2))] [] := by
  have h := hh
  unfold wj_X2_makesOblong_78 at h
  refine zv_iconst X (v := 0) dX2_makesOblong_78 rfl ?_
  exact kj_X2_makesOblong_79 X  h
theorem kj_X2_makesOblong_39 {p : Program} {l : Launch} {e : Env} {s : State} {m : MethodId} {args : Array Value} {below : List Frame} {meth : Method} {c : Code} {D : zk_G} {g : zk_M} {b0 : Nat} (X : zk_X p s m args meth c D g b0 cX2_makesOblong 4 "LandFolio$Parcel" "makesOblong" (some Jvm.ClassFile.FieldType.boolean)) {post : Int32 → Prop}  {a0 : Option Nat} {a1 : Option Nat} {s0 : Int32} {P : zk_H}    (hh : wj_X2_makesOblong_39 post a0 a1 s0 P) : zV p l e ({ frames := 3, cells := 0, slots := 0, locals := 67 } : Room) s m args below meth c D b0 4 (0) (0) (MQ below (va_Qi (fun r u => post r ∧ u = P) (zk_B D b0) (zk_A b0)) args s 0 0 (zk_A b0)) P 39 [(0, va_rf (a0)), (1, va_rf (a1))] [.int (s0)] := by
  have h := hh
  unfold wj_X2_makesOblong_39 at h
  refine zv_istore_n X (i := 2) (L' := [(2, .int (s0)), (0, va_rf (a0)), (1, va_rf (a1))]) dX2_makesOblong_39 rfl (by decide) (by simp [zk_s1, zk_s2, zk_rc, zk_ic, zk_jc]) ?_
  refine zv_aload_n X 1 dX2_makesOblong_40 rfl ?_
  refine zv_getf_i X fo_q310 dX2_makesOblong_41 h (fun v41 h => ?_)
  refine zv_aload_n X 2 dX2_makesOblong_44 rfl ?_
  refine zv_getf_i X fo_q310 dX2_makesOblong_45 h (fun v45 h => ?_)
  refine zv_icmp_ne X (tgt := 78) dX2_makesOblong_48 (by decide) h (fun h => ?_) (fun h => ?_)
  · refine zv_sub (L' := [(2, .int (s0))]) [0] rfl ?_
    exact kj_X2_makesOblong_78 X  h
  · refine zv_aload_n X 1 dX2_makesOblong_51 rfl ?_
    refine zv_getf_i X fo_q317 dX2_makesOblong_52 h (fun v52 h => ?_)
    refine zv_aload_n X 2 dX2_makesOblong_55 rfl ?_
    refine zv_getf_i X fo_q317 dX2_makesOblong_56 h (fun v56 h => ?_)
    refine zv_icmp_ne X (tgt := 78) dX2_makesOblong_59 (by decide) h (fun h => ?_) (fun h => ?_)
    · refine zv_sub (L' := [(2, .int (s0))]) [0] rfl ?_
      exact kj_X2_makesOblong_78 X  h
    · refine zv_aload_n X 1 dX2_makesOblong_62 rfl ?_
      refine zv_aload_n X 2 dX2_makesOblong_63 rfl ?_
      refine zv_ciR ((zr_Vl X (As := [va_rf (a1)]) (rest := []) h (fun a h => wk_X2_edge l h) (zk_l1 ⟨_, rfl, cwV 1 X.hts (lw_V q1422 q1423 q1424 q111 q1425) rfl rfl rfl ⟨rfl, md_X2_edge⟩ ⟨Nat.le_of_ble_eq_true rfl, Nat.le_of_ble_eq_true rfl⟩⟩) rfl rfl (zk_rs (Nat.le_of_ble_eq_true rfl)) dX2_makesOblong_64 ⟨by first | exact Nat.le_of_ble_eq_true rfl | omega | (dsimp only; omega), by first | exact Nat.le_of_ble_eq_true rfl | omega | (dsimp only; omega)⟩)) (fun v64 h => ?_)
      refine zv_aload_n X 1 dX2_makesOblong_67 rfl ?_
      refine zv_getf_i X fo_q317 dX2_makesOblong_68 h (fun v68 h => ?_)
      refine zv_icmp_ne X (tgt := 78) dX2_makesOblong_71 (by decide) h (fun h => ?_) (fun h => ?_)
      · refine zv_sub (L' := [(2, .int (s0))]) [0] rfl ?_
        exact kj_X2_makesOblong_78 X  h
      · refine zv_iconst X (v := 1) dX2_makesOblong_74 rfl ?_
        refine zv_goto X (tgt := 79) dX2_makesOblong_75 (by decide) ?_
        refine zv_sub (L' := [(2, .int (s0))]) [0] rfl ?_
        exact kj_X2_makesOblong_79 X  h
theorem kj_X2_makesOblong_38 {p : Program} {l : Launch} {e : Env} {s : State} {m : MethodId} {args : Array Value} {below : List Frame} {meth : Method} {c : Code} {D : zk_G} {g : zk_M} {b0 : Nat} (X : zk_X p s m args meth c D g b0 cX2_makesOblong 4 "LandFolio$Parcel" "makesOblong" (some Jvm.ClassFile.FieldType.boolean)) {post : Int32 → Prop}  {a0 : Option Nat} {a1 : Option Nat} {P : zk_H}    (hh : wj_X2_makesOblong_38 post a0 a1 P) : zV p l e ({ frames := 3, cells := 0, slots := 0, locals := 67 } : Room) s m args below meth c D b0 4 (0) (0) (MQ below (va_Qi (fun r u => post r ∧ u = P) (zk_B D b0) (zk_A b0)) args s 0 0 (zk_A b0)) P 38 [(0, va_rf (a0)), (1, va_rf (a1))] [] := by
  have h := hh
  unfold wj_X2_makesOblong_38 at h
  refine zv_iconst X (v := 0) dX2_makesOblong_38 rfl ?_
  exact kj_X2_makesOblong_39 X  h
theorem md_X2_makesOblong : yX2_makesOblong.cls ≠ "java/lang/invoke/MethodHandle" ∧ yX2_makesOblong.cls ≠ "java/lang/invoke/VarHandle" ∧ (parseMethodDescriptor yX2_makesOblong.desc).map (fun d => d.parameters.length) = some 1 := by decide +kernel
theorem wk_X2_makesOblong (l : Launch) {D : zk_G} {g : zk_M} {b0 : Nat} {post : Int32 → Prop} {this : Nat} {x1 : Option Nat} {P : zk_H} (hh : wp_X2_makesOblong post this x1 P) : Met l yX2_makesOblong (ws_ yX2_makesOblong cX2_makesOblong 4 (some Jvm.ClassFile.FieldType.boolean)) ({ frames := 3, cells := 0, slots := 0, locals := 67 } : Room) (va_Pc [.ref this, va_rf (x1)] (zk_pre D g b0 P)) (va_Qi (fun r u => post r ∧ u = P) (zk_B D b0) (zk_A b0)) 0 0 (zk_A b0) := by
  refine zk_enter "LandFolio$Parcel" "makesOblong" rfl rfl (plainFor_of_name (by decide)) [.ref this, va_rf (x1)] (by cases x1 <;> exact Nat.le_of_ble_eq_true rfl) ?_
  intro p e s m args below meth c X
  refine zk_at0 (L' := [(0, va_rf (some this)), (1, va_rf (x1))]) (by cases x1 <;> rfl) ?_
  have h := hh
  unfold wp_X2_makesOblong at h
  refine zv_aload_n X 0 dX2_makesOblong_0 rfl ?_
  refine zv_getf_i X fo_q306 dX2_makesOblong_1 h (fun v1 h => ?_)
  refine zv_aload_n X 1 dX2_makesOblong_4 rfl ?_
  refine zv_getf_i X fo_q306 dX2_makesOblong_5 h (fun v5 h => ?_)
  refine zv_icmp_ne X (tgt := 38) dX2_makesOblong_8 (by decide) h (fun h => ?_) (fun h => ?_)
  · exact kj_X2_makesOblong_38 X  h
  · refine zv_aload_n X 0 dX2_makesOblong_11 rfl ?_
    refine zv_getf_i X fo_q313 dX2_makesOblong_12 h (fun v12 h => ?_)
    refine zv_aload_n X 1 dX2_makesOblong_15 rfl ?_
    refine zv_getf_i X fo_q313 dX2_makesOblong_16 h (fun v16 h => ?_)
    refine zv_icmp_ne X (tgt := 38) dX2_makesOblong_19 (by decide) h (fun h => ?_) (fun h => ?_)
    · exact kj_X2_makesOblong_38 X  h
    · refine zv_aload_n X 0 dX2_makesOblong_22 rfl ?_
      refine zv_aload_n X 1 dX2_makesOblong_23 rfl ?_
      refine zv_ciR ((zr_Vl X (As := [va_rf (x1)]) (rest := []) h (fun a h => wk_X2_edge l h) (zk_l1 ⟨_, rfl, cwV 1 X.hts (lw_V q1422 q1423 q1424 q111 q1425) rfl rfl rfl ⟨rfl, md_X2_edge⟩ ⟨Nat.le_of_ble_eq_true rfl, Nat.le_of_ble_eq_true rfl⟩⟩) rfl rfl (zk_rs (Nat.le_of_ble_eq_true rfl)) dX2_makesOblong_24 ⟨by first | exact Nat.le_of_ble_eq_true rfl | omega | (dsimp only; omega), by first | exact Nat.le_of_ble_eq_true rfl | omega | (dsimp only; omega)⟩)) (fun v24 h => ?_)
      refine zv_aload_n X 0 dX2_makesOblong_27 rfl ?_
      refine zv_getf_i X fo_q313 dX2_makesOblong_28 h (fun v28 h => ?_)
      refine zv_icmp_ne X (tgt := 38) dX2_makesOblong_31 (by decide) h (fun h => ?_) (fun h => ?_)
      · exact kj_X2_makesOblong_38 X  h
      · refine zv_iconst X (v := 1) dX2_makesOblong_34 rfl ?_
        refine zv_goto X (tgt := 39) dX2_makesOblong_35 (by decide) ?_
        exact kj_X2_makesOblong_39 X  h
theorem md_X17_holds : yX17_holds.cls ≠ "java/lang/invoke/MethodHandle" ∧ yX17_holds.cls ≠ "java/lang/invoke/VarHandle" ∧ (parseMethodDescriptor yX17_holds.desc).map (fun d => d.parameters.length) = some 3 := by decide +kernel
theorem wk_X17_holds (l : Launch) {D : zk_G} {g : zk_M} {b0 : Nat} {post : Int32 → Prop} {this : Nat} {x1 : Option Nat} {x2 : Int32} {x3 : Int32} {P : zk_H} (hh : wp_X17_holds post this x1 x2 x3 P) : zu_Met l yX17_holds (ws_ yX17_holds cX17_holds 4 (some Jvm.ClassFile.FieldType.boolean)) ({ frames := 4, cells := 0, slots := 0, locals := 90 } : Room) (va_Pc [.ref this, va_rf (x1), .int (x2), .int (x3)] (zk_pre D g b0 P)) (va_Qi (fun r u => post r ∧ u = P) (zk_B D b0) (zk_A b0)) 0 0 (zk_A b0) := by
  refine zu_enter "LandFolio$Reason$4" "holds" rfl rfl (plainFor_of_name (by decide)) [.ref this, va_rf (x1), .int (x2), .int (x3)] (by cases x1 <;> exact Nat.le_of_ble_eq_true rfl) ?_
  intro p e s m args below meth c X
  refine zk_at0 (L' := [(0, va_rf (some this)), (1, va_rf (x1)), (2, .int (x2)), (3, .int (x3))]) (by cases x1 <;> rfl) ?_
  have h := hh
  unfold wp_X17_holds at h
  refine zv_aload_n X 1 dX17_holds_0 rfl ?_
  refine zv_iload_n X 2 dX17_holds_1 rfl ?_
  refine zv_cqR ((zr_Vl X (As := [.int (x2)]) (rest := []) h (fun a h => wk_X1_parcel l h) (zk_l1 ⟨_, rfl, cwV 1 X.hts (lw_V q1417 q502 q503 q103 q504) rfl rfl rfl ⟨rfl, md_X1_parcel⟩ ⟨Nat.le_of_ble_eq_true rfl, Nat.le_of_ble_eq_true rfl⟩⟩) rfl rfl (zk_rs (Nat.le_of_ble_eq_true rfl)) dX17_holds_2 ⟨by first | exact Nat.le_of_ble_eq_true rfl | omega | (dsimp only; omega), by first | exact Nat.le_of_ble_eq_true rfl | omega | (dsimp only; omega)⟩)) (fun v2 h => ?_)
  refine zv_aload_n X 1 dX17_holds_5 rfl ?_
  refine zv_iload_n X 3 dX17_holds_6 rfl ?_
  refine zv_cqR ((zr_Vl X (As := [.int (x3)]) (rest := [va_rf (v2)]) h (fun a h => wk_X1_parcel l h) (zk_l1 ⟨_, rfl, cwV 1 X.hts (lw_V q1417 q502 q503 q103 q504) rfl rfl rfl ⟨rfl, md_X1_parcel⟩ ⟨Nat.le_of_ble_eq_true rfl, Nat.le_of_ble_eq_true rfl⟩⟩) rfl rfl (zk_rs (Nat.le_of_ble_eq_true rfl)) dX17_holds_7 ⟨by first | exact Nat.le_of_ble_eq_true rfl | omega | (dsimp only; omega), by first | exact Nat.le_of_ble_eq_true rfl | omega | (dsimp only; omega)⟩)) (fun v7 h => ?_)
  refine zv_ciR ((zr_Vl X (As := [va_rf (v7)]) (rest := []) h (fun a h => wk_X2_makesOblong l h) (zk_l1 ⟨_, rfl, cwV 1 X.hts (lw_V q1418 q1419 q1420 q111 q1421) rfl rfl rfl ⟨rfl, md_X2_makesOblong⟩ ⟨Nat.le_of_ble_eq_true rfl, Nat.le_of_ble_eq_true rfl⟩⟩) rfl rfl (zk_rs (Nat.le_of_ble_eq_true rfl)) dX17_holds_10 ⟨by first | exact Nat.le_of_ble_eq_true rfl | omega | (dsimp only; omega), by first | exact Nat.le_of_ble_eq_true rfl | omega | (dsimp only; omega)⟩)) (fun v10 h => ?_)
  refine zv_if_ne X (tgt := 20) dX17_holds_13 (by decide) h (fun h => ?_) (fun h => ?_)
  · refine zv_iconst X (v := 0) dX17_holds_20 rfl ?_
    exact zv_zret X (ty := .boolean) rfl (by first | exact Nat.le_of_ble_eq_true rfl | omega | (dsimp only; omega)) (by first | exact Nat.le_of_ble_eq_true rfl | omega | (dsimp only; omega)) dX17_holds_21 ⟨rfl, ⟨h, rfl⟩⟩
  · refine zv_iconst X (v := 1) dX17_holds_16 rfl ?_
    refine zv_goto X (tgt := 21) dX17_holds_17 (by decide) ?_
    exact zv_zret X (ty := .boolean) rfl (by first | exact Nat.le_of_ble_eq_true rfl | omega | (dsimp only; omega)) (by first | exact Nat.le_of_ble_eq_true rfl | omega | (dsimp only; omega)) dX17_holds_21 ⟨rfl, ⟨h, rfl⟩⟩
theorem kj_X3_isAlike_34 {p : Program} {l : Launch} {e : Env} {s : State} {m : MethodId} {args : Array Value} {below : List Frame} {meth : Method} {c : Code} {D : zk_G} {g : zk_M} {b0 : Nat} (X : zk_X p s m args meth c D g b0 cX3_isAlike 4 "LandFolio$Deed" "isAlike" (some Jvm.ClassFile.FieldType.boolean)) {post : Int32 → Prop} {K4 : Int32 → Int32 → Prop} {a0 : Option Nat} {a1 : Option Nat} {a3 : Int32} {s0 : Int32} {P : zk_H}  (hK4 : ∀ (u2 : Int32) (u3 : Int32), K4 u2 u3 → zV p l e ({ frames := 0, cells := 0, slots := 0, locals := 0 } : Room) s m args below meth c D b0 4 (0) (0) (MQ below (va_Qi (fun r u => post r ∧ u = P) (zk_B D b0) (zk_A b0)) args s 0 0 (zk_A b0)) P 4 [(0, va_rf (a0)), (1, va_rf (a1)), (2, .int (u2)), (3, .int (u3))] [])  (hh : wj_X3_isAlike_34 post K4 a0 a1 a3 s0 P) : zV p l e ({ frames := 0, cells := 0, slots := 0, locals := 0 } : Room) s m args below meth c D b0 4 (0) (0) (MQ below (va_Qi (fun r u => post r ∧ u = P) (zk_B D b0) (zk_A b0)) args s 0 0 (zk_A b0)) P 34 [(0, va_rf (a0)), (1, va_rf (a1)), (3, .int (a3))] [.int (s0)] := by
  have h := hh
  unfold wj_X3_isAlike_34 at h
  refine zv_istore_n X (i := 2) (L' := [(2, .int (s0)), (0, va_rf (a0)), (1, va_rf (a1)), (3, .int (a3))]) dX3_isAlike_34 rfl (by decide) (by simp [zk_s1, zk_s2, zk_rc, zk_ic, zk_jc]) ?_
  obtain ⟨v35, e35, h⟩ := zt_e h
  refine zv_iinc X (v := v35) (L' := [(3, .int (v35)), (2, .int (s0)), (0, va_rf (a0)), (1, va_rf (a1))]) 3 dX3_isAlike_35 rfl e35 (by decide) rfl ?_
  refine zv_goto X (tgt := 4) dX3_isAlike_38 (by decide) ?_
  refine zv_sub (L' := [(0, va_rf (a0)), (1, va_rf (a1)), (2, .int (s0)), (3, .int (v35))]) [2, 3, 1, 0] rfl ?_
  exact hK4 _ _ h
theorem kj_X3_isAlike_33 {p : Program} {l : Launch} {e : Env} {s : State} {m : MethodId} {args : Array Value} {below : List Frame} {meth : Method} {c : Code} {D : zk_G} {g : zk_M} {b0 : Nat} (X : zk_X p s m args meth c D g b0 cX3_isAlike 4 "LandFolio$Deed" "isAlike" (some Jvm.ClassFile.FieldType.boolean)) {post : Int32 → Prop} {K4 : Int32 → Int32 → Prop} {a0 : Option Nat} {a1 : Option Nat} {a3 : Int32} {P : zk_H}  (hK4 : ∀ (u2 : Int32) (u3 : Int32), K4 u2 u3 → zV p l e ({ frames := 0, cells := 0, slots := 0, locals := 0 } : Room) s m args below meth c D b0 4 (0) (0) (MQ below (va_Qi (fun r u => post r ∧ u = P) (zk_B D b0) (zk_A b0)) args s 0 0 (zk_A b0)) P 4 [(0, va_rf (a0)), (1, va_rf (a1)), (2, .int (u2)), (3, .int (u3))] [])  (hh : wj_X3_isAlike_33 post K4 a0 a1 a3 P) : zV p l e ({ frames := 0, cells := 0, slots := 0, locals := 0 } : Room) s m args below meth c D b0 4 (0) (0) (MQ below (va_Qi (fun r u => post r ∧ u = P) (zk_B D b0) (zk_A b0)) args s 0 0 (zk_A b0)) P 33 [(0, va_rf (a0)), (1, va_rf (a1)), (3, .int (a3))] [] := by
  have h := hh
  unfold wj_X3_isAlike_33 at h
  refine zv_iconst X (v := 0) dX3_isAlike_33 rfl ?_
  exact kj_X3_isAlike_34 X hK4 h
theorem kb_X3_isAlike_4 {p : Program} {l : Launch} {e : Env} {s : State} {m : MethodId} {args : Array Value} {below : List Frame} {meth : Method} {c : Code} {D : zk_G} {g : zk_M} {b0 : Nat} (X : zk_X p s m args meth c D g b0 cX3_isAlike 4 "LandFolio$Deed" "isAlike" (some Jvm.ClassFile.FieldType.boolean)) {post : Int32 → Prop}  {K4 : Int32 → Int32 → Prop} {a0 : Option Nat} {a1 : Option Nat} {a2 : Int32} {a3 : Int32} {P : zk_H}   (hK4 : ∀ (u2 : Int32) (u3 : Int32), K4 u2 u3 → zV p l e ({ frames := 0, cells := 0, slots := 0, locals := 0 } : Room) s m args below meth c D b0 4 (0) (0) (MQ below (va_Qi (fun r u => post r ∧ u = P) (zk_B D b0) (zk_A b0)) args s 0 0 (zk_A b0)) P 4 [(0, va_rf (a0)), (1, va_rf (a1)), (2, .int (u2)), (3, .int (u3))] [])  (hh : wb_X3_isAlike_4 post a0 a1 P K4 a2 a3) : zV p l e ({ frames := 0, cells := 0, slots := 0, locals := 0 } : Room) s m args below meth c D b0 4 (0) (0) (MQ below (va_Qi (fun r u => post r ∧ u = P) (zk_B D b0) (zk_A b0)) args s 0 0 (zk_A b0)) P 4 [(0, va_rf (a0)), (1, va_rf (a1)), (2, .int (a2)), (3, .int (a3))] [] := by
  have h := hh
  unfold wb_X3_isAlike_4 at h
  refine zv_iload_n X 3 dX3_isAlike_4 rfl ?_
  refine zv_bipush X (v := 6) dX3_isAlike_5 rfl ?_
  refine zv_icmp_ge X (tgt := 41) dX3_isAlike_7 (by decide) h (fun h => ?_) (fun h => ?_)
  · refine zv_iload_n X 2 dX3_isAlike_41 rfl ?_
    obtain ⟨hb, h⟩ := h
    exact zv_zret X (ty := .boolean) rfl (by first | exact Nat.le_of_ble_eq_true rfl | omega | (dsimp only; omega)) (by first | exact Nat.le_of_ble_eq_true rfl | omega | (dsimp only; omega)) dX3_isAlike_42 ⟨hb, ⟨h, rfl⟩⟩
  · refine zv_iload_n X 2 dX3_isAlike_10 rfl ?_
    refine zv_if_eq X (tgt := 33) dX3_isAlike_11 (by decide) h (fun h => ?_) (fun h => ?_)
    · refine zv_sub (L' := [(0, va_rf (a0)), (1, va_rf (a1)), (3, .int (a3))]) [0, 1, 3] rfl ?_
      exact kj_X3_isAlike_33 X hK4 h
    · refine zv_aload_n X 0 dX3_isAlike_14 rfl ?_
      refine zv_getf_r X fo_q373 dX3_isAlike_15 h (fun v15 h => ?_)
      refine zv_iload_n X 3 dX3_isAlike_18 rfl ?_
      refine zv_iald X dX3_isAlike_19 h (fun v19 h => ?_)
      refine zv_aload_n X 1 dX3_isAlike_20 rfl ?_
      refine zv_getf_r X fo_q373 dX3_isAlike_21 h (fun v21 h => ?_)
      refine zv_iload_n X 3 dX3_isAlike_24 rfl ?_
      refine zv_iald X dX3_isAlike_25 h (fun v25 h => ?_)
      refine zv_icmp_ne X (tgt := 33) dX3_isAlike_26 (by decide) h (fun h => ?_) (fun h => ?_)
      · refine zv_sub (L' := [(0, va_rf (a0)), (1, va_rf (a1)), (3, .int (a3))]) [0, 1, 3] rfl ?_
        exact kj_X3_isAlike_33 X hK4 h
      · refine zv_iconst X (v := 1) dX3_isAlike_29 rfl ?_
        refine zv_goto X (tgt := 34) dX3_isAlike_30 (by decide) ?_
        refine zv_sub (L' := [(0, va_rf (a0)), (1, va_rf (a1)), (3, .int (a3))]) [0, 1, 3] rfl ?_
        exact kj_X3_isAlike_34 X hK4 h
theorem kl_X3_isAlike_4 {p : Program} {l : Launch} {e : Env} {s : State} {m : MethodId} {args : Array Value} {below : List Frame} {meth : Method} {c : Code} {D : zk_G} {g : zk_M} {b0 : Nat} (X : zk_X p s m args meth c D g b0 cX3_isAlike 4 "LandFolio$Deed" "isAlike" (some Jvm.ClassFile.FieldType.boolean)) {post : Int32 → Prop}  {a0 : Option Nat} {a1 : Option Nat} {P : zk_H}   : ∀ (n : Nat) (a2 : Int32) (a3 : Int32), wl_X3_isAlike_4 post a0 a1 P n a2 a3 → zV p l e ({ frames := 0, cells := 0, slots := 0, locals := 0 } : Room) s m args below meth c D b0 4 (0) (0) (MQ below (va_Qi (fun r u => post r ∧ u = P) (zk_B D b0) (zk_A b0)) args s 0 0 (zk_A b0)) P 4 [(0, va_rf (a0)), (1, va_rf (a1)), (2, .int (a2)), (3, .int (a3))] [] := by
  intro n
  induction n with
  | zero => intro _ _ h; exact h.elim
  | succ n ih =>
    intro a2 a3 h
    exact kb_X3_isAlike_4 X  (fun u0 u1 h => ih _ _ h)  h
theorem md_X3_isAlike : yX3_isAlike.cls ≠ "java/lang/invoke/MethodHandle" ∧ yX3_isAlike.cls ≠ "java/lang/invoke/VarHandle" ∧ (parseMethodDescriptor yX3_isAlike.desc).map (fun d => d.parameters.length) = some 1 := by decide +kernel
theorem wk_X3_isAlike (l : Launch) {D : zk_G} {g : zk_M} {b0 : Nat} {post : Int32 → Prop} {this : Nat} {x1 : Option Nat} {P : zk_H} (hh : wp_X3_isAlike post this x1 P) : Met l yX3_isAlike (ws_ yX3_isAlike cX3_isAlike 4 (some Jvm.ClassFile.FieldType.boolean)) ({ frames := 0, cells := 0, slots := 0, locals := 0 } : Room) (va_Pc [.ref this, va_rf (x1)] (zk_pre D g b0 P)) (va_Qi (fun r u => post r ∧ u = P) (zk_B D b0) (zk_A b0)) 0 0 (zk_A b0) := by
  refine zk_enter "LandFolio$Deed" "isAlike" rfl rfl (plainFor_of_name (by decide)) [.ref this, va_rf (x1)] (by cases x1 <;> exact Nat.le_of_ble_eq_true rfl) ?_
  intro p e s m args below meth c X
  refine zk_at0 (L' := [(0, va_rf (some this)), (1, va_rf (x1))]) (by cases x1 <;> rfl) ?_
  have h := hh
  unfold wp_X3_isAlike at h
  refine zv_iconst X (v := 1) dX3_isAlike_0 rfl ?_
  refine zv_istore_n X (i := 2) (L' := [(2, .int (1)), (0, va_rf (some this)), (1, va_rf (x1))]) dX3_isAlike_1 rfl (by decide) (by simp [zk_s1, zk_s2, zk_rc, zk_ic, zk_jc]) ?_
  refine zv_iconst X (v := 0) dX3_isAlike_2 rfl ?_
  refine zv_istore_n X (i := 3) (L' := [(3, .int (0)), (2, .int (1)), (0, va_rf (some this)), (1, va_rf (x1))]) dX3_isAlike_3 rfl (by decide) rfl ?_
  refine zv_sub (L' := [(0, va_rf (some this)), (1, va_rf (x1)), (2, .int (1)), (3, .int (0))]) [2, 3, 1, 0] rfl ?_
  obtain ⟨n3, h⟩ := h
  exact kl_X3_isAlike_4 X  n3 _ _ h
theorem md_X18_holds : yX18_holds.cls ≠ "java/lang/invoke/MethodHandle" ∧ yX18_holds.cls ≠ "java/lang/invoke/VarHandle" ∧ (parseMethodDescriptor yX18_holds.desc).map (fun d => d.parameters.length) = some 3 := by decide +kernel
theorem wk_X18_holds (l : Launch) {D : zk_G} {g : zk_M} {b0 : Nat} {post : Int32 → Prop} {this : Nat} {x1 : Option Nat} {x2 : Int32} {x3 : Int32} {P : zk_H} (hh : wp_X18_holds post this x1 x2 x3 P) : zu_Met l yX18_holds (ws_ yX18_holds cX18_holds 4 (some Jvm.ClassFile.FieldType.boolean)) ({ frames := 5, cells := 0, slots := 0, locals := 110 } : Room) (va_Pc [.ref this, va_rf (x1), .int (x2), .int (x3)] (zk_pre D g b0 P)) (va_Qi (fun r u => post r ∧ u = P) (zk_B D b0) (zk_A b0)) 0 0 (zk_A b0) := by
  refine zu_enter "LandFolio$Reason$5" "holds" rfl rfl (plainFor_of_name (by decide)) [.ref this, va_rf (x1), .int (x2), .int (x3)] (by cases x1 <;> exact Nat.le_of_ble_eq_true rfl) ?_
  intro p e s m args below meth c X
  refine zk_at0 (L' := [(0, va_rf (some this)), (1, va_rf (x1)), (2, .int (x2)), (3, .int (x3))]) (by cases x1 <;> rfl) ?_
  have h := hh
  unfold wp_X18_holds at h
  refine zv_aload_n X 1 dX18_holds_0 rfl ?_
  refine zv_iload_n X 2 dX18_holds_1 rfl ?_
  refine zv_cqR ((zr_Vl X (As := [.int (x2)]) (rest := []) h (fun a h => wk_X1_deed l h) (zk_l1 ⟨_, rfl, cwV 1 X.hts (lw_V q1434 q1190 q1191 q103 q1192) rfl rfl rfl ⟨rfl, md_X1_deed⟩ ⟨Nat.le_of_ble_eq_true rfl, Nat.le_of_ble_eq_true rfl⟩⟩) rfl rfl (zk_rs (Nat.le_of_ble_eq_true rfl)) dX18_holds_2 ⟨by first | exact Nat.le_of_ble_eq_true rfl | omega | (dsimp only; omega), by first | exact Nat.le_of_ble_eq_true rfl | omega | (dsimp only; omega)⟩)) (fun v2 h => ?_)
  refine zv_aload_n X 1 dX18_holds_5 rfl ?_
  refine zv_iload_n X 3 dX18_holds_6 rfl ?_
  refine zv_cqR ((zr_Vl X (As := [.int (x3)]) (rest := [va_rf (v2)]) h (fun a h => wk_X1_deed l h) (zk_l1 ⟨_, rfl, cwV 1 X.hts (lw_V q1434 q1190 q1191 q103 q1192) rfl rfl rfl ⟨rfl, md_X1_deed⟩ ⟨Nat.le_of_ble_eq_true rfl, Nat.le_of_ble_eq_true rfl⟩⟩) rfl rfl (zk_rs (Nat.le_of_ble_eq_true rfl)) dX18_holds_7 ⟨by first | exact Nat.le_of_ble_eq_true rfl | omega | (dsimp only; omega), by first | exact Nat.le_of_ble_eq_true rfl | omega | (dsimp only; omega)⟩)) (fun v7 h => ?_)
  refine zv_ciR ((zr_Vl X (As := [va_rf (v7)]) (rest := []) h (fun a h => wk_X3_isAlike l h) (zk_l1 ⟨_, rfl, cwV 1 X.hts (lw_V q1435 q1436 q1437 q112 q1438) rfl rfl rfl ⟨rfl, md_X3_isAlike⟩ ⟨Nat.le_of_ble_eq_true rfl, Nat.le_of_ble_eq_true rfl⟩⟩) rfl rfl (zk_rs (Nat.le_of_ble_eq_true rfl)) dX18_holds_10 ⟨by first | exact Nat.le_of_ble_eq_true rfl | omega | (dsimp only; omega), by first | exact Nat.le_of_ble_eq_true rfl | omega | (dsimp only; omega)⟩)) (fun v10 h => ?_)
  refine zv_if_ne X (tgt := 20) dX18_holds_13 (by decide) h (fun h => ?_) (fun h => ?_)
  · refine zv_iconst X (v := 0) dX18_holds_20 rfl ?_
    exact zv_zret X (ty := .boolean) rfl (by first | exact Nat.le_of_ble_eq_true rfl | omega | (dsimp only; omega)) (by first | exact Nat.le_of_ble_eq_true rfl | omega | (dsimp only; omega)) dX18_holds_21 ⟨rfl, ⟨h, rfl⟩⟩
  · refine zv_iconst X (v := 1) dX18_holds_16 rfl ?_
    refine zv_goto X (tgt := 21) dX18_holds_17 (by decide) ?_
    exact zv_zret X (ty := .boolean) rfl (by first | exact Nat.le_of_ble_eq_true rfl | omega | (dsimp only; omega)) (by first | exact Nat.le_of_ble_eq_true rfl | omega | (dsimp only; omega)) dX18_holds_21 ⟨rfl, ⟨h, rfl⟩⟩
theorem kb_X0_whyNot_34 {p : Program} {l : Launch} {e : Env} {s : State} {m : MethodId} {args : Array Value} {below : List Frame} {meth : Method} {c : Code} {D : zk_G} {g : zk_M} {b0 : Nat} (X : zk_X p s m args meth c D g b0 cX0_whyNot 7 "LandFolio" "whyNot" (some Jvm.ClassFile.FieldType.int)) {post : Int32 → zk_H → Prop}  {K34 : Int32 → Prop} {a0 : Option Nat} {a1 : Int32} {a2 : Int32} {a3 : Option Nat} {a4 : Int32} {a5 : Int32} {P : zk_H}   (hK34 : ∀ (u5 : Int32), K34 u5 → zV p l e ({ frames := 6, cells := 1, slots := 6, locals := 133 } : Room) s m args below meth c D b0 7 (1) (6) (MQ below (va_Qi post (zk_B D b0) (zk_A b0)) args s 1 6 (zk_A b0)) P 34 [(0, va_rf (a0)), (1, .int (a1)), (2, .int (a2)), (3, va_rf (a3)), (4, .int (a4)), (5, .int (u5))] [])  (hh : wb_X0_whyNot_34 g post a0 a1 a2 a3 a4 P K34 a5) : zV p l e ({ frames := 6, cells := 1, slots := 6, locals := 133 } : Room) s m args below meth c D b0 7 (1) (6) (MQ below (va_Qi post (zk_B D b0) (zk_A b0)) args s 1 6 (zk_A b0)) P 34 [(0, va_rf (a0)), (1, .int (a1)), (2, .int (a2)), (3, va_rf (a3)), (4, .int (a4)), (5, .int (a5))] [] := by
  have h := hh
  unfold wb_X0_whyNot_34 at h
  refine zv_iload X 5 dX0_whyNot_34 rfl ?_
  refine zv_iload X 4 dX0_whyNot_36 rfl ?_
  refine zv_icmp_ge X (tgt := 73) dX0_whyNot_38 (by decide) h (fun h => ?_) (fun h => ?_)
  · refine zv_iconst X (v := 0) dX0_whyNot_73 rfl ?_
    exact zv_iret X rfl (by first | exact Nat.le_of_ble_eq_true rfl | omega | (dsimp only; omega)) (by first | exact Nat.le_of_ble_eq_true rfl | omega | (dsimp only; omega)) dX0_whyNot_74 h
  · refine zv_aload_n X 3 dX0_whyNot_41 rfl ?_
    refine zv_iload X 5 dX0_whyNot_42 rfl ?_
    refine zv_aald X dX0_whyNot_44 h (fun v44 h => ?_)
    refine zv_astore X (L' := [(6, va_rf (v44)), (0, va_rf (a0)), (1, .int (a1)), (2, .int (a2)), (3, va_rf (a3)), (4, .int (a4)), (5, .int (a5))]) dX0_whyNot_45 (by decide) rfl ?_
    refine zv_aload X 0 dX0_whyNot_47 rfl ?_
    refine zv_aload_n X 1 dX0_whyNot_49 rfl ?_
    refine zv_getf_r X fo_q402 dX0_whyNot_50 h (fun v50 h => ?_)
    refine zv_iload_n X 2 dX0_whyNot_53 rfl ?_
    refine zv_iload_n X 3 dX0_whyNot_54 rfl ?_
    have hk : ∀ (v55 : Int32), (zi (v55 = 0) (zt (a5 + 1) (fun v67 => K34 v67)) (ze_n g v44 (fun v63 => post v63 P))) → zV p l e ({ frames := 6, cells := 1, slots := 6, locals := 133 } : Room) s m args below meth c D b0 7 (1) (6) (MQ below (va_Qi post (zk_B D b0) (zk_A b0)) args s 1 6 (zk_A b0)) P 58 [(6, va_rf (v44)), (0, va_rf (a0)), (1, .int (a1)), (2, .int (a2)), (3, va_rf (a3)), (4, .int (a4)), (5, .int (a5))] [.int (v55)] := by
      intro v55 h
      refine zv_if_eq X (tgt := 67) dX0_whyNot_58 (by decide) h (fun h => ?_) (fun h => ?_)
      · obtain ⟨v67, e67, h⟩ := zt_e h
        refine zv_iinc X (v := v67) (L' := [(5, .int (v67)), (6, va_rf (v44)), (0, va_rf (a0)), (1, .int (a1)), (2, .int (a2)), (3, va_rf (a3)), (4, .int (a4))]) 6 dX0_whyNot_67 rfl e67 (by decide) rfl ?_
        refine zv_goto X (tgt := 34) dX0_whyNot_70 (by decide) ?_
        refine zv_sub (L' := [(0, va_rf (a0)), (1, .int (a1)), (2, .int (a2)), (3, va_rf (a3)), (4, .int (a4)), (5, .int (v67))]) [2, 3, 4, 5, 6, 0] rfl ?_
        refine zv_widen (c2 := 1) (s2 := 6) (by first | exact Nat.le_refl _ | omega) (by first | exact Nat.le_refl _ | omega) ?_
        exact hK34 _ h
      · refine zv_aload X 0 dX0_whyNot_61 rfl ?_
        obtain ⟨i9, hi9, rfl, h9⟩ := h
        rcases (show i9 = 0 ∨ i9 = 1 ∨ i9 = 2 ∨ i9 = 3 ∨ i9 = 4 by omega) with rfl | rfl | rfl | rfl | rfl
        · refine zv_ciR (post := fun r => r = nI 0) (zr_E X (mc := 0) (ms := 0) (rm := ({ frames := 0, cells := 0, slots := 0, locals := 0 } : Room)) (As := []) (rest := []) (i := 0) (E := "LandFolio$Reason$1") (K := fun a => a = g (26 + 0)) (r0 := some (g (26 + 0))) ⟨rfl, rfl⟩ rfl (fun a ha => ha ▸ wk_J17_ordinal l (i := 0) (post := fun r => r = nI 0) (by decide) rfl) (va_cwU 0 X.hts (zk_wsU q1439 q1440 q1442 q1447 q131 q1448) rfl rfl rfl rfl md_J17_ordinal ⟨Nat.le_of_ble_eq_true rfl, Nat.le_of_ble_eq_true rfl⟩) rfl rfl (zk_rs (Nat.le_of_ble_eq_true rfl)) dX0_whyNot_63 ⟨by first | exact Nat.le_of_ble_eq_true rfl | omega | (dsimp only; omega), by first | exact Nat.le_of_ble_eq_true rfl | omega | (dsimp only; omega)⟩) (fun v63 hx9 => ?_)
          have h : (fun (v63 : Int32) => post v63 P) v63 := hx9 ▸ h9
          exact zv_iret X rfl (by first | exact Nat.le_of_ble_eq_true rfl | omega | (dsimp only; omega)) (by first | exact Nat.le_of_ble_eq_true rfl | omega | (dsimp only; omega)) dX0_whyNot_66 h
        · refine zv_ciR (post := fun r => r = nI 1) (zr_E X (mc := 0) (ms := 0) (rm := ({ frames := 0, cells := 0, slots := 0, locals := 0 } : Room)) (As := []) (rest := []) (i := 1) (E := "LandFolio$Reason$2") (K := fun a => a = g (26 + 1)) (r0 := some (g (26 + 1))) ⟨rfl, rfl⟩ rfl (fun a ha => ha ▸ wk_J17_ordinal l (i := 1) (post := fun r => r = nI 1) (by decide) rfl) (va_cwU 0 X.hts (zk_wsU q1439 q1440 q1443 q1447 q131 q1448) rfl rfl rfl rfl md_J17_ordinal ⟨Nat.le_of_ble_eq_true rfl, Nat.le_of_ble_eq_true rfl⟩) rfl rfl (zk_rs (Nat.le_of_ble_eq_true rfl)) dX0_whyNot_63 ⟨by first | exact Nat.le_of_ble_eq_true rfl | omega | (dsimp only; omega), by first | exact Nat.le_of_ble_eq_true rfl | omega | (dsimp only; omega)⟩) (fun v63 hx9 => ?_)
          have h : (fun (v63 : Int32) => post v63 P) v63 := hx9 ▸ h9
          exact zv_iret X rfl (by first | exact Nat.le_of_ble_eq_true rfl | omega | (dsimp only; omega)) (by first | exact Nat.le_of_ble_eq_true rfl | omega | (dsimp only; omega)) dX0_whyNot_66 h
        · refine zv_ciR (post := fun r => r = nI 2) (zr_E X (mc := 0) (ms := 0) (rm := ({ frames := 0, cells := 0, slots := 0, locals := 0 } : Room)) (As := []) (rest := []) (i := 2) (E := "LandFolio$Reason$3") (K := fun a => a = g (26 + 2)) (r0 := some (g (26 + 2))) ⟨rfl, rfl⟩ rfl (fun a ha => ha ▸ wk_J17_ordinal l (i := 2) (post := fun r => r = nI 2) (by decide) rfl) (va_cwU 0 X.hts (zk_wsU q1439 q1440 q1444 q1447 q131 q1448) rfl rfl rfl rfl md_J17_ordinal ⟨Nat.le_of_ble_eq_true rfl, Nat.le_of_ble_eq_true rfl⟩) rfl rfl (zk_rs (Nat.le_of_ble_eq_true rfl)) dX0_whyNot_63 ⟨by first | exact Nat.le_of_ble_eq_true rfl | omega | (dsimp only; omega), by first | exact Nat.le_of_ble_eq_true rfl | omega | (dsimp only; omega)⟩) (fun v63 hx9 => ?_)
          have h : (fun (v63 : Int32) => post v63 P) v63 := hx9 ▸ h9
          exact zv_iret X rfl (by first | exact Nat.le_of_ble_eq_true rfl | omega | (dsimp only; omega)) (by first | exact Nat.le_of_ble_eq_true rfl | omega | (dsimp only; omega)) dX0_whyNot_66 h
        · refine zv_ciR (post := fun r => r = nI 3) (zr_E X (mc := 0) (ms := 0) (rm := ({ frames := 0, cells := 0, slots := 0, locals := 0 } : Room)) (As := []) (rest := []) (i := 3) (E := "LandFolio$Reason$4") (K := fun a => a = g (26 + 3)) (r0 := some (g (26 + 3))) ⟨rfl, rfl⟩ rfl (fun a ha => ha ▸ wk_J17_ordinal l (i := 3) (post := fun r => r = nI 3) (by decide) rfl) (va_cwU 0 X.hts (zk_wsU q1439 q1440 q1445 q1447 q131 q1448) rfl rfl rfl rfl md_J17_ordinal ⟨Nat.le_of_ble_eq_true rfl, Nat.le_of_ble_eq_true rfl⟩) rfl rfl (zk_rs (Nat.le_of_ble_eq_true rfl)) dX0_whyNot_63 ⟨by first | exact Nat.le_of_ble_eq_true rfl | omega | (dsimp only; omega), by first | exact Nat.le_of_ble_eq_true rfl | omega | (dsimp only; omega)⟩) (fun v63 hx9 => ?_)
          have h : (fun (v63 : Int32) => post v63 P) v63 := hx9 ▸ h9
          exact zv_iret X rfl (by first | exact Nat.le_of_ble_eq_true rfl | omega | (dsimp only; omega)) (by first | exact Nat.le_of_ble_eq_true rfl | omega | (dsimp only; omega)) dX0_whyNot_66 h
        · refine zv_ciR (post := fun r => r = nI 4) (zr_E X (mc := 0) (ms := 0) (rm := ({ frames := 0, cells := 0, slots := 0, locals := 0 } : Room)) (As := []) (rest := []) (i := 4) (E := "LandFolio$Reason$5") (K := fun a => a = g (26 + 4)) (r0 := some (g (26 + 4))) ⟨rfl, rfl⟩ rfl (fun a ha => ha ▸ wk_J17_ordinal l (i := 4) (post := fun r => r = nI 4) (by decide) rfl) (va_cwU 0 X.hts (zk_wsU q1439 q1440 q1446 q1447 q131 q1448) rfl rfl rfl rfl md_J17_ordinal ⟨Nat.le_of_ble_eq_true rfl, Nat.le_of_ble_eq_true rfl⟩) rfl rfl (zk_rs (Nat.le_of_ble_eq_true rfl)) dX0_whyNot_63 ⟨by first | exact Nat.le_of_ble_eq_true rfl | omega | (dsimp only; omega), by first | exact Nat.le_of_ble_eq_true rfl | omega | (dsimp only; omega)⟩) (fun v63 hx9 => ?_)
          have h : (fun (v63 : Int32) => post v63 P) v63 := hx9 ▸ h9
          exact zv_iret X rfl (by first | exact Nat.le_of_ble_eq_true rfl | omega | (dsimp only; omega)) (by first | exact Nat.le_of_ble_eq_true rfl | omega | (dsimp only; omega)) dX0_whyNot_66 h
    rcases h with h | h | h | h | h
    · refine zv_ciR ((zu_run X (As := [va_rf (v50), .int (a1), .int (a2)]) (rest := []) (i := 0) (E := "LandFolio$Reason$1") h rfl (fun a h => wk_X14_holds l h) (zu_cw X 3 q1399 q1401 q1402 q1403 q1404 rfl rfl (X.nw (zk_nwm q1400 rfl)) ⟨by decide, by decide, md_X14_holds.2.2⟩ ⟨Nat.le_of_ble_eq_true rfl, Nat.le_of_ble_eq_true rfl⟩) (lw_meth q1404) rfl rfl (zk_rs (Nat.le_of_ble_eq_true rfl)) dX0_whyNot_55 ⟨by first | exact Nat.le_of_ble_eq_true rfl | omega | (dsimp only; omega), by first | exact Nat.le_of_ble_eq_true rfl | omega | (dsimp only; omega)⟩)) (fun v55 h => zv_widen (by first | exact Nat.le_of_ble_eq_true rfl | omega | (dsimp only; omega)) (by first | exact Nat.le_of_ble_eq_true rfl | omega | (dsimp only; omega)) (hk v55 h))
    · refine zv_ciR ((zu_run X (As := [va_rf (v50), .int (a1), .int (a2)]) (rest := []) (i := 1) (E := "LandFolio$Reason$2") h rfl (fun a h => wk_X15_holds l h) (zu_cw X 3 q1399 q1401 q1405 q1406 q1407 rfl rfl (X.nw (zk_nwm q1400 rfl)) ⟨by decide, by decide, md_X15_holds.2.2⟩ ⟨Nat.le_of_ble_eq_true rfl, Nat.le_of_ble_eq_true rfl⟩) (lw_meth q1407) rfl rfl (zk_rs (Nat.le_of_ble_eq_true rfl)) dX0_whyNot_55 ⟨by first | exact Nat.le_of_ble_eq_true rfl | omega | (dsimp only; omega), by first | exact Nat.le_of_ble_eq_true rfl | omega | (dsimp only; omega)⟩)) (fun v55 h => zv_widen (by first | exact Nat.le_of_ble_eq_true rfl | omega | (dsimp only; omega)) (by first | exact Nat.le_of_ble_eq_true rfl | omega | (dsimp only; omega)) (hk v55 h))
    · refine zv_ciR ((zu_run X (As := [va_rf (v50), .int (a1), .int (a2)]) (rest := []) (i := 2) (E := "LandFolio$Reason$3") h rfl (fun a h => wk_X16_holds l h) (zu_cw X 3 q1399 q1401 q1410 q1411 q1412 rfl rfl (X.nw (zk_nwm q1400 rfl)) ⟨by decide, by decide, md_X16_holds.2.2⟩ ⟨Nat.le_of_ble_eq_true rfl, Nat.le_of_ble_eq_true rfl⟩) (lw_meth q1412) rfl rfl (zk_rs (Nat.le_of_ble_eq_true rfl)) dX0_whyNot_55 ⟨by first | exact Nat.le_of_ble_eq_true rfl | omega | (dsimp only; omega), by first | exact Nat.le_of_ble_eq_true rfl | omega | (dsimp only; omega)⟩)) (fun v55 h => zv_widen (by first | exact Nat.le_of_ble_eq_true rfl | omega | (dsimp only; omega)) (by first | exact Nat.le_of_ble_eq_true rfl | omega | (dsimp only; omega)) (hk v55 h))
    · refine zv_ciR ((zu_run X (As := [va_rf (v50), .int (a1), .int (a2)]) (rest := []) (i := 3) (E := "LandFolio$Reason$4") h rfl (fun a h => wk_X17_holds l h) (zu_cw X 3 q1399 q1401 q1414 q1415 q1416 rfl rfl (X.nw (zk_nwm q1400 rfl)) ⟨by decide, by decide, md_X17_holds.2.2⟩ ⟨Nat.le_of_ble_eq_true rfl, Nat.le_of_ble_eq_true rfl⟩) (lw_meth q1416) rfl rfl (zk_rs (Nat.le_of_ble_eq_true rfl)) dX0_whyNot_55 ⟨by first | exact Nat.le_of_ble_eq_true rfl | omega | (dsimp only; omega), by first | exact Nat.le_of_ble_eq_true rfl | omega | (dsimp only; omega)⟩)) (fun v55 h => zv_widen (by first | exact Nat.le_of_ble_eq_true rfl | omega | (dsimp only; omega)) (by first | exact Nat.le_of_ble_eq_true rfl | omega | (dsimp only; omega)) (hk v55 h))
    · refine zv_ciR ((zu_run X (As := [va_rf (v50), .int (a1), .int (a2)]) (rest := []) (i := 4) (E := "LandFolio$Reason$5") h rfl (fun a h => wk_X18_holds l h) (zu_cw X 3 q1399 q1401 q1431 q1432 q1433 rfl rfl (X.nw (zk_nwm q1400 rfl)) ⟨by decide, by decide, md_X18_holds.2.2⟩ ⟨Nat.le_of_ble_eq_true rfl, Nat.le_of_ble_eq_true rfl⟩) (lw_meth q1433) rfl rfl (zk_rs (Nat.le_of_ble_eq_true rfl)) dX0_whyNot_55 ⟨by first | exact Nat.le_of_ble_eq_true rfl | omega | (dsimp only; omega), by first | exact Nat.le_of_ble_eq_true rfl | omega | (dsimp only; omega)⟩)) (fun v55 h => zv_widen (by first | exact Nat.le_of_ble_eq_true rfl | omega | (dsimp only; omega)) (by first | exact Nat.le_of_ble_eq_true rfl | omega | (dsimp only; omega)) (hk v55 h))
theorem kl_X0_whyNot_34 {p : Program} {l : Launch} {e : Env} {s : State} {m : MethodId} {args : Array Value} {below : List Frame} {meth : Method} {c : Code} {D : zk_G} {g : zk_M} {b0 : Nat} (X : zk_X p s m args meth c D g b0 cX0_whyNot 7 "LandFolio" "whyNot" (some Jvm.ClassFile.FieldType.int)) {post : Int32 → zk_H → Prop}  {a0 : Option Nat} {a1 : Int32} {a2 : Int32} {a3 : Option Nat} {a4 : Int32} {P : zk_H}   : ∀ (n : Nat) (a5 : Int32), wl_X0_whyNot_34 g post a0 a1 a2 a3 a4 P n a5 → zV p l e ({ frames := 6, cells := 1, slots := 6, locals := 133 } : Room) s m args below meth c D b0 7 (1) (6) (MQ below (va_Qi post (zk_B D b0) (zk_A b0)) args s 1 6 (zk_A b0)) P 34 [(0, va_rf (a0)), (1, .int (a1)), (2, .int (a2)), (3, va_rf (a3)), (4, .int (a4)), (5, .int (a5))] [] := by
  intro n
  induction n with
  | zero => intro _ h; exact h.elim
  | succ n ih =>
    intro a5 h
    exact kb_X0_whyNot_34 X  (fun u0 h => ih _ h)  h
theorem md_X0_whyNot : yX0_whyNot.cls ≠ "java/lang/invoke/MethodHandle" ∧ yX0_whyNot.cls ≠ "java/lang/invoke/VarHandle" ∧ (parseMethodDescriptor yX0_whyNot.desc).map (fun d => d.parameters.length) = some 2 := by decide +kernel
theorem wk_X0_whyNot (l : Launch) {D : zk_G} {g : zk_M} {b0 : Nat} {post : Int32 → zk_H → Prop} {this : Nat} {x1 : Int32} {x2 : Int32} {P : zk_H} (hh : wp_X0_whyNot g post this x1 x2 P) : Met l yX0_whyNot (ws_ yX0_whyNot cX0_whyNot 7 (some Jvm.ClassFile.FieldType.int)) ({ frames := 6, cells := 1, slots := 6, locals := 133 } : Room) (va_Pc [.ref this, .int (x1), .int (x2)] (zk_pre D g b0 P)) (va_Qi post (zk_B D b0) (zk_A b0)) 1 6 (zk_A b0) := by
  refine zk_enter "LandFolio" "whyNot" rfl rfl (plainFor_of_name (by decide)) [.ref this, .int (x1), .int (x2)] (Nat.le_of_ble_eq_true rfl) ?_
  intro p e s m args below meth c X
  refine zk_at0 (L' := [(0, va_rf (some this)), (1, .int (x1)), (2, .int (x2))]) (rfl) ?_
  have h := hh
  unfold wp_X0_whyNot at h
  refine zv_aload_n X 0 dX0_whyNot_0 rfl ?_
  refine zv_iload_n X 1 dX0_whyNot_1 rfl ?_
  refine zv_ciR ((zr_Vl X (As := [.int (x1)]) (rest := []) h (fun a h => wk_X0_isParcel l h) (zk_l1 ⟨_, rfl, cwV 1 X.hts (lw_V q1364 q1366 qs33 q102 q1367) rfl rfl rfl ⟨rfl, md_X0_isParcel⟩ ⟨Nat.le_of_ble_eq_true rfl, Nat.le_of_ble_eq_true rfl⟩⟩) rfl rfl (zk_rs (Nat.le_of_ble_eq_true rfl)) dX0_whyNot_2 ⟨by first | exact Nat.le_of_ble_eq_true rfl | omega | (dsimp only; omega), by first | exact Nat.le_of_ble_eq_true rfl | omega | (dsimp only; omega)⟩)) (fun v2 h => ?_)
  refine zv_if_eq X (tgt := 21) dX0_whyNot_5 (by decide) h (fun h => ?_) (fun h => ?_)
  · refine zv_iconst X (v := -1) dX0_whyNot_21 rfl ?_
    exact zv_iret X rfl (by first | exact Nat.le_of_ble_eq_true rfl | omega | (dsimp only; omega)) (by first | exact Nat.le_of_ble_eq_true rfl | omega | (dsimp only; omega)) dX0_whyNot_22 h
  · refine zv_aload_n X 0 dX0_whyNot_8 rfl ?_
    refine zv_iload_n X 2 dX0_whyNot_9 rfl ?_
    refine zv_ciR ((zr_Vl X (As := [.int (x2)]) (rest := []) h (fun a h => wk_X0_isParcel l h) (zk_l1 ⟨_, rfl, cwV 1 X.hts (lw_V q1364 q1366 qs33 q102 q1367) rfl rfl rfl ⟨rfl, md_X0_isParcel⟩ ⟨Nat.le_of_ble_eq_true rfl, Nat.le_of_ble_eq_true rfl⟩⟩) rfl rfl (zk_rs (Nat.le_of_ble_eq_true rfl)) dX0_whyNot_10 ⟨by first | exact Nat.le_of_ble_eq_true rfl | omega | (dsimp only; omega), by first | exact Nat.le_of_ble_eq_true rfl | omega | (dsimp only; omega)⟩)) (fun v10 h => ?_)
    refine zv_if_eq X (tgt := 21) dX0_whyNot_13 (by decide) h (fun h => ?_) (fun h => ?_)
    · refine zv_iconst X (v := -1) dX0_whyNot_21 rfl ?_
      exact zv_iret X rfl (by first | exact Nat.le_of_ble_eq_true rfl | omega | (dsimp only; omega)) (by first | exact Nat.le_of_ble_eq_true rfl | omega | (dsimp only; omega)) dX0_whyNot_22 h
    · refine zv_iload_n X 1 dX0_whyNot_16 rfl ?_
      refine zv_iload_n X 2 dX0_whyNot_17 rfl ?_
      refine zv_icmp_ne X (tgt := 23) dX0_whyNot_18 (by decide) h (fun h => ?_) (fun h => ?_)
      · refine zv_cq ((zr_S X (As := []) (rest := []) (wk_X11_values l h) (va_cwS 0 X.hts (lw_S q1388 q1389 q132 q1390) rfl rfl rfl md_X11_values ⟨Nat.le_of_ble_eq_true rfl, Nat.le_of_ble_eq_true rfl⟩) rfl rfl (zk_rs (Nat.le_of_ble_eq_true rfl)) dX0_whyNot_23 ⟨by first | exact Nat.le_of_ble_eq_true rfl | omega | (dsimp only; omega), by first | exact Nat.le_of_ble_eq_true rfl | omega | (dsimp only; omega)⟩)) (fun v23 P23 h => ?_)
        refine zv_astore_n X (i := 3) (L' := [(3, va_rf (v23)), (0, va_rf (some this)), (1, .int (x1)), (2, .int (x2))]) dX0_whyNot_26 rfl (by decide) rfl ?_
        refine zv_aload_n X 0 dX0_whyNot_27 rfl ?_
        refine zv_alen X dX0_whyNot_28 h (fun v28 h => ?_)
        refine zv_istore X (L' := [(4, .int (v28)), (3, va_rf (v23)), (0, va_rf (some this)), (1, .int (x1)), (2, .int (x2))]) dX0_whyNot_29 (by decide) (by simp [zk_s1, zk_s2, zk_rc, zk_ic, zk_jc]) ?_
        refine zv_iconst X (v := 0) dX0_whyNot_31 rfl ?_
        refine zv_istore X (L' := [(5, .int (0)), (4, .int (v28)), (3, va_rf (v23)), (0, va_rf (some this)), (1, .int (x1)), (2, .int (x2))]) dX0_whyNot_32 (by decide) rfl ?_
        refine zv_sub (L' := [(0, va_rf (some this)), (1, .int (x1)), (2, .int (x2)), (3, va_rf (v23)), (4, .int (v28)), (5, .int (0))]) [3, 4, 5, 2, 1, 0] rfl ?_
        obtain ⟨n32, h⟩ := h
        refine zv_widen (c2 := 1) (s2 := 6) (by first | exact Nat.le_refl _ | omega) (by first | exact Nat.le_refl _ | omega) ?_
        exact kl_X0_whyNot_34 X  n32 _ h
      · refine zv_iconst X (v := -1) dX0_whyNot_21 rfl ?_
        exact zv_iret X rfl (by first | exact Nat.le_of_ble_eq_true rfl | omega | (dsimp only; omega)) (by first | exact Nat.le_of_ble_eq_true rfl | omega | (dsimp only; omega)) dX0_whyNot_22 h
theorem kj_X1_joins_98 {p : Program} {l : Launch} {e : Env} {s : State} {m : MethodId} {args : Array Value} {below : List Frame} {meth : Method} {c : Code} {D : zk_G} {g : zk_M} {b0 : Nat} (X : zk_X p s m args meth c D g b0 cX1_joins 10 "LandFolio$Folio" "joins" (some Jvm.ClassFile.FieldType.int)) {post : Int32 → zk_H → Prop}  {a0 : Option Nat} {a1 : Int32} {a2 : Int32} {a3 : Option Nat} {a4 : Option Nat} {a6 : Int32} {s0 : Int32} {P : zk_H}    (hh : wj_X1_joins_98 g post a0 a1 a2 a3 a4 a6 s0 P) : zV p l e ({ frames := 8, cells := 5, slots := 210, locals := 193 } : Room) s m args below meth c D b0 10 (0) (0) (MQ below (va_Qi post (zk_B D b0) (zk_A b0)) args s 5 210 (zk_A b0)) P 98 [(0, va_rf (a0)), (1, .int (a1)), (2, .int (a2)), (3, va_rf (a3)), (4, va_rf (a4)), (6, .int (a6))] [.int (s0)] := by
  have h := hh
  unfold wj_X1_joins_98 at h
  refine zv_istore X (L' := [(7, .int (s0)), (0, va_rf (a0)), (1, .int (a1)), (2, .int (a2)), (3, va_rf (a3)), (4, va_rf (a4)), (6, .int (a6))]) dX1_joins_98 (by decide) rfl ?_
  refine zv_new X zk_nc2 q300 (by first | exact Nat.le_of_ble_eq_true rfl | omega | (dsimp only; omega)) (by first | exact Nat.le_of_ble_eq_true rfl | omega | (dsimp only; omega)) dX1_joins_100 h (fun v100 P100 h => ?_)
  refine zv_dup X dX1_joins_103 (zk_rc _) ?_
  refine zv_aload_n X 4 dX1_joins_104 rfl ?_
  refine zv_getf_i X fo_q308 dX1_joins_105 h (fun v105 h => ?_)
  refine zv_aload X 5 dX1_joins_108 rfl ?_
  refine zv_getf_i X fo_q308 dX1_joins_110 h (fun v110 h => ?_)
  refine zv_mmin X q1453 ⟨by first | decide | (dsimp only; decide), by first | decide | (dsimp only; decide)⟩ (zk_rs (Nat.le_of_ble_eq_true rfl)) (by first | exact Nat.le_of_ble_eq_true rfl | dsimp only; omega) (by first | exact Nat.le_of_ble_eq_true rfl | dsimp only; omega) dX1_joins_113 ?_
  refine zv_aload_n X 4 dX1_joins_116 rfl ?_
  refine zv_getf_i X fo_q311 dX1_joins_117 h (fun v117 h => ?_)
  refine zv_aload X 5 dX1_joins_120 rfl ?_
  refine zv_getf_i X fo_q311 dX1_joins_122 h (fun v122 h => ?_)
  refine zv_mmin X q1453 ⟨by first | decide | (dsimp only; decide), by first | decide | (dsimp only; decide)⟩ (zk_rs (Nat.le_of_ble_eq_true rfl)) (by first | exact Nat.le_of_ble_eq_true rfl | dsimp only; omega) (by first | exact Nat.le_of_ble_eq_true rfl | dsimp only; omega) dX1_joins_125 ?_
  refine zv_iload X 6 dX1_joins_128 rfl ?_
  refine zv_iload X 0 dX1_joins_130 rfl ?_
  refine zv_aload_n X 1 dX1_joins_132 rfl ?_
  refine zv_getf_i X fo_q189 dX1_joins_133 h (fun v133 h => ?_)
  refine zv_iload_n X 2 dX1_joins_136 rfl ?_
  refine zv_iload_n X 3 dX1_joins_137 rfl ?_
  refine zv_mmin X q1453 ⟨by first | decide | (dsimp only; decide), by first | decide | (dsimp only; decide)⟩ (by simp only [List.map_cons, List.map_nil, zk_rc, zk_ic, zk_jc, List.sum_cons, List.sum_nil]; decide) (by first | exact Nat.le_of_ble_eq_true rfl | dsimp only; omega) (by first | exact Nat.le_of_ble_eq_true rfl | dsimp only; omega) dX1_joins_138 ?_
  refine zv_iload_n X 2 dX1_joins_141 rfl ?_
  refine zv_iload_n X 3 dX1_joins_142 rfl ?_
  refine zv_mmax X q1454 ⟨by first | decide | (dsimp only; decide), by first | decide | (dsimp only; decide)⟩ (by simp only [List.map_cons, List.map_nil, zk_rc, zk_ic, zk_jc, List.sum_cons, List.sum_nil]; decide) (by first | exact Nat.le_of_ble_eq_true rfl | dsimp only; omega) (by first | exact Nat.le_of_ble_eq_true rfl | dsimp only; omega) dX1_joins_143 ?_
  refine zv_cv ((zr_I X (As := [.int (zk_min v105 v110), .int (zk_min v117 v122), .int (a6), .int (s0), .int (v133), .int (zk_min a1 a2), .int (zk_max a1 a2)]) (rest := [va_rf (some v100)]) (wk_X2_init l h) (cwI 7 X.hts (lw_meth q304) rfl rfl rfl (X.w q111) (X.w q302) (X.w q303) rfl md_X2_init ⟨Nat.le_of_ble_eq_true rfl, Nat.le_of_ble_eq_true rfl⟩) rfl rfl (zk_rs (Nat.le_of_ble_eq_true rfl)) dX1_joins_146 ⟨by first | exact Nat.le_of_ble_eq_true rfl | omega | (dsimp only; omega), by first | exact Nat.le_of_ble_eq_true rfl | omega | (dsimp only; omega)⟩)) (fun P146 h => ?_)
  refine zv_astore X (L' := [(8, va_rf (some v100)), (7, .int (s0)), (0, va_rf (a0)), (1, .int (a1)), (2, .int (a2)), (3, va_rf (a3)), (4, va_rf (a4)), (6, .int (a6))]) dX1_joins_149 (by decide) rfl ?_
  refine zv_aload_n X 2 dX1_joins_151 rfl ?_
  refine zv_aload X 0 dX1_joins_152 rfl ?_
  refine zv_aload_n X 2 dX1_joins_154 rfl ?_
  refine zv_iload_n X 3 dX1_joins_155 rfl ?_
  refine zv_cqR ((zr_Vl X (As := [.int (a1)]) (rest := [va_rf (some v100), va_rf (a0)]) h (fun a h => wk_X1_deed l h) (zk_l1 ⟨_, rfl, cwV 1 X.hts (lw_V q1189 q1190 q1191 q103 q1192) rfl rfl rfl ⟨rfl, md_X1_deed⟩ ⟨Nat.le_of_ble_eq_true rfl, Nat.le_of_ble_eq_true rfl⟩⟩) rfl rfl (zk_rs (Nat.le_of_ble_eq_true rfl)) dX1_joins_156 ⟨by first | exact Nat.le_of_ble_eq_true rfl | omega | (dsimp only; omega), by first | exact Nat.le_of_ble_eq_true rfl | omega | (dsimp only; omega)⟩)) (fun v156 h => ?_)
  refine zv_getf_r X fo_q375 dX1_joins_159 h (fun v159 h => ?_)
  refine zv_clone X (ty := .int) (by decide +kernel) (by decide) q1197 q1198 q1199 (zk_nwm q1200 rfl) ⟨by first | decide | (dsimp only; decide), by first | decide | (dsimp only; decide)⟩ (zk_rs (Nat.le_of_ble_eq_true rfl)) (by first | exact Nat.le_of_ble_eq_true rfl | omega | (dsimp only; omega)) (by first | exact Nat.le_of_ble_eq_true rfl | omega | (dsimp only; omega)) dX1_joins_162 h (fun v162 P162 h => ?_)
  refine zv_castA X (ty := .int) (by decide +kernel) q1201 dX1_joins_165 h (fun h => ?_)
  refine zv_ci ((zr_Vl X (As := [va_rf (some v100), va_rf (some v162)]) (rest := []) h (fun a h => wk_X1_comes l h) (zk_l1 ⟨_, rfl, cwV 2 X.hts (lw_V q354 q355 q356 q103 q357) rfl rfl rfl ⟨rfl, md_X1_comes⟩ ⟨Nat.le_of_ble_eq_true rfl, Nat.le_of_ble_eq_true rfl⟩⟩) rfl rfl (zk_rs (Nat.le_of_ble_eq_true rfl)) dX1_joins_168 ⟨by first | exact Nat.le_of_ble_eq_true rfl | omega | (dsimp only; omega), by first | exact Nat.le_of_ble_eq_true rfl | omega | (dsimp only; omega)⟩)) (fun v168 P168 h => ?_)
  refine zv_istore X (L' := [(9, .int (v168)), (8, va_rf (some v100)), (7, .int (s0)), (0, va_rf (a0)), (1, .int (a1)), (2, .int (a2)), (3, va_rf (a3)), (4, va_rf (a4)), (6, .int (a6))]) dX1_joins_171 (by decide) rfl ?_
  refine zv_aload_n X 3 dX1_joins_173 rfl ?_
  refine zv_iload_n X 4 dX1_joins_174 rfl ?_
  refine zv_iload X 0 dX1_joins_175 rfl ?_
  refine zv_cv ((zr_Vl X (As := [.int (a1), .int (v168)]) (rest := []) h (fun a h => wk_X1_moves l h) (zk_l1 ⟨_, rfl, cwV 2 X.hts (lw_V q1202 q1204 qs21 q103 q1205) rfl rfl rfl ⟨rfl, md_X1_moves⟩ ⟨Nat.le_of_ble_eq_true rfl, Nat.le_of_ble_eq_true rfl⟩⟩) rfl rfl (zk_rs (Nat.le_of_ble_eq_true rfl)) dX1_joins_177 ⟨by first | exact Nat.le_of_ble_eq_true rfl | omega | (dsimp only; omega), by first | exact Nat.le_of_ble_eq_true rfl | omega | (dsimp only; omega)⟩)) (fun P177 h => ?_)
  refine zv_aload_n X 3 dX1_joins_180 rfl ?_
  refine zv_iload_n X 5 dX1_joins_181 rfl ?_
  refine zv_iload X 0 dX1_joins_182 rfl ?_
  refine zv_cv ((zr_Vl X (As := [.int (a2), .int (v168)]) (rest := []) h (fun a h => wk_X1_moves l h) (zk_l1 ⟨_, rfl, cwV 2 X.hts (lw_V q1202 q1204 qs21 q103 q1205) rfl rfl rfl ⟨rfl, md_X1_moves⟩ ⟨Nat.le_of_ble_eq_true rfl, Nat.le_of_ble_eq_true rfl⟩⟩) rfl rfl (zk_rs (Nat.le_of_ble_eq_true rfl)) dX1_joins_184 ⟨by first | exact Nat.le_of_ble_eq_true rfl | omega | (dsimp only; omega), by first | exact Nat.le_of_ble_eq_true rfl | omega | (dsimp only; omega)⟩)) (fun P184 h => ?_)
  refine zv_aload_n X 3 dX1_joins_187 rfl ?_
  refine zv_iload_n X 4 dX1_joins_188 rfl ?_
  refine zv_cv ((zr_Vl X (As := [.int (a1)]) (rest := []) h (fun a h => wk_X1_goes l h) (zk_l1 ⟨_, rfl, cwV 1 X.hts (lw_V q1233 q1235 qs23 q103 q1236) rfl rfl rfl ⟨rfl, md_X1_goes⟩ ⟨Nat.le_of_ble_eq_true rfl, Nat.le_of_ble_eq_true rfl⟩⟩) rfl rfl (zk_rs (Nat.le_of_ble_eq_true rfl)) dX1_joins_189 ⟨by first | exact Nat.le_of_ble_eq_true rfl | omega | (dsimp only; omega), by first | exact Nat.le_of_ble_eq_true rfl | omega | (dsimp only; omega)⟩)) (fun P189 h => ?_)
  refine zv_aload_n X 3 dX1_joins_192 rfl ?_
  refine zv_iload_n X 5 dX1_joins_193 rfl ?_
  refine zv_cv ((zr_Vl X (As := [.int (a2)]) (rest := []) h (fun a h => wk_X1_goes l h) (zk_l1 ⟨_, rfl, cwV 1 X.hts (lw_V q1233 q1235 qs23 q103 q1236) rfl rfl rfl ⟨rfl, md_X1_goes⟩ ⟨Nat.le_of_ble_eq_true rfl, Nat.le_of_ble_eq_true rfl⟩⟩) rfl rfl (zk_rs (Nat.le_of_ble_eq_true rfl)) dX1_joins_194 ⟨by first | exact Nat.le_of_ble_eq_true rfl | omega | (dsimp only; omega), by first | exact Nat.le_of_ble_eq_true rfl | omega | (dsimp only; omega)⟩)) (fun P194 h => ?_)
  refine zv_iload X 0 dX1_joins_197 rfl ?_
  exact zv_iret X rfl (by first | exact Nat.le_of_ble_eq_true rfl | omega | (dsimp only; omega)) (by first | exact Nat.le_of_ble_eq_true rfl | omega | (dsimp only; omega)) dX1_joins_199 h
theorem kj_X1_joins_74 {p : Program} {l : Launch} {e : Env} {s : State} {m : MethodId} {args : Array Value} {below : List Frame} {meth : Method} {c : Code} {D : zk_G} {g : zk_M} {b0 : Nat} (X : zk_X p s m args meth c D g b0 cX1_joins 10 "LandFolio$Folio" "joins" (some Jvm.ClassFile.FieldType.int)) {post : Int32 → zk_H → Prop}  {a0 : Option Nat} {a1 : Int32} {a2 : Int32} {a3 : Option Nat} {a4 : Option Nat} {a5 : Int32} {s0 : Int32} {P : zk_H}    (hh : wj_X1_joins_74 g post a0 a1 a2 a3 a4 a5 s0 P) : zV p l e ({ frames := 8, cells := 5, slots := 210, locals := 193 } : Room) s m args below meth c D b0 10 (0) (0) (MQ below (va_Qi post (zk_B D b0) (zk_A b0)) args s 5 210 (zk_A b0)) P 74 [(0, va_rf (a0)), (1, .int (a1)), (2, .int (a2)), (3, va_rf (a3)), (4, va_rf (a4)), (5, .int (a5))] [.int (s0)] := by
  have h := hh
  unfold wj_X1_joins_74 at h
  refine zv_istore X (L' := [(6, .int (s0)), (0, va_rf (a0)), (1, .int (a1)), (2, .int (a2)), (3, va_rf (a3)), (4, va_rf (a4)), (5, .int (a5))]) dX1_joins_74 (by decide) rfl ?_
  refine zv_iload X 6 dX1_joins_76 rfl ?_
  refine zv_if_eq X (tgt := 94) dX1_joins_78 (by decide) h (fun h => ?_) (fun h => ?_)
  · refine zv_aload_n X 4 dX1_joins_94 rfl ?_
    refine zv_getf_i X fo_q319 dX1_joins_95 h (fun v95 h => ?_)
    refine zv_sub (L' := [(0, va_rf (a0)), (1, .int (a1)), (2, .int (a2)), (3, va_rf (a3)), (4, va_rf (a4)), (6, .int (s0))]) [1, 2, 3, 4, 5, 0] rfl ?_
    refine zv_widen (c2 := 0) (s2 := 0) (by first | exact Nat.le_of_ble_eq_true rfl | omega | (dsimp only; omega)) (by first | exact Nat.le_of_ble_eq_true rfl | omega | (dsimp only; omega)) ?_
    exact kj_X1_joins_98 X  h
  · refine zv_aload_n X 4 dX1_joins_81 rfl ?_
    refine zv_getf_i X fo_q319 dX1_joins_82 h (fun v82 h => ?_)
    refine zv_aload X 5 dX1_joins_85 rfl ?_
    refine zv_getf_i X fo_q319 dX1_joins_87 h (fun v87 h => ?_)
    refine zv_iadd X dX1_joins_90 ?_
    refine zv_goto X (tgt := 98) dX1_joins_91 (by decide) ?_
    refine zv_sub (L' := [(0, va_rf (a0)), (1, .int (a1)), (2, .int (a2)), (3, va_rf (a3)), (4, va_rf (a4)), (6, .int (s0))]) [1, 2, 3, 4, 5, 0] rfl ?_
    refine zv_widen (c2 := 0) (s2 := 0) (by first | exact Nat.le_of_ble_eq_true rfl | omega | (dsimp only; omega)) (by first | exact Nat.le_of_ble_eq_true rfl | omega | (dsimp only; omega)) ?_
    exact kj_X1_joins_98 X  h
theorem kj_X1_joins_50 {p : Program} {l : Launch} {e : Env} {s : State} {m : MethodId} {args : Array Value} {below : List Frame} {meth : Method} {c : Code} {D : zk_G} {g : zk_M} {b0 : Nat} (X : zk_X p s m args meth c D g b0 cX1_joins 10 "LandFolio$Folio" "joins" (some Jvm.ClassFile.FieldType.int)) {post : Int32 → zk_H → Prop}  {a0 : Option Nat} {a1 : Int32} {a2 : Int32} {a3 : Option Nat} {a4 : Option Nat} {s0 : Int32} {P : zk_H}    (hh : wj_X1_joins_50 g post a0 a1 a2 a3 a4 s0 P) : zV p l e ({ frames := 8, cells := 5, slots := 210, locals := 193 } : Room) s m args below meth c D b0 10 (0) (0) (MQ below (va_Qi post (zk_B D b0) (zk_A b0)) args s 5 210 (zk_A b0)) P 50 [(0, va_rf (a0)), (1, .int (a1)), (2, .int (a2)), (3, va_rf (a3)), (4, va_rf (a4))] [.int (s0)] := by
  have h := hh
  unfold wj_X1_joins_50 at h
  refine zv_istore X (L' := [(5, .int (s0)), (0, va_rf (a0)), (1, .int (a1)), (2, .int (a2)), (3, va_rf (a3)), (4, va_rf (a4))]) dX1_joins_50 (by decide) (by simp [zk_s1, zk_s2, zk_rc, zk_ic, zk_jc]) ?_
  refine zv_iload X 0 dX1_joins_52 rfl ?_
  refine zv_if_eq X (tgt := 64) dX1_joins_54 (by decide) h (fun h => ?_) (fun h => ?_)
  · refine zv_aload_n X 4 dX1_joins_64 rfl ?_
    refine zv_getf_i X fo_q316 dX1_joins_65 h (fun v65 h => ?_)
    refine zv_aload X 5 dX1_joins_68 rfl ?_
    refine zv_getf_i X fo_q316 dX1_joins_70 h (fun v70 h => ?_)
    refine zv_iadd X dX1_joins_73 ?_
    refine zv_sub (L' := [(0, va_rf (a0)), (1, .int (a1)), (2, .int (a2)), (3, va_rf (a3)), (4, va_rf (a4)), (5, .int (s0))]) [1, 2, 3, 4, 5, 0] rfl ?_
    refine zv_widen (c2 := 0) (s2 := 0) (by first | exact Nat.le_of_ble_eq_true rfl | omega | (dsimp only; omega)) (by first | exact Nat.le_of_ble_eq_true rfl | omega | (dsimp only; omega)) ?_
    exact kj_X1_joins_74 X  h
  · refine zv_aload_n X 4 dX1_joins_57 rfl ?_
    refine zv_getf_i X fo_q316 dX1_joins_58 h (fun v58 h => ?_)
    refine zv_goto X (tgt := 74) dX1_joins_61 (by decide) ?_
    refine zv_sub (L' := [(0, va_rf (a0)), (1, .int (a1)), (2, .int (a2)), (3, va_rf (a3)), (4, va_rf (a4)), (5, .int (s0))]) [1, 2, 3, 4, 5, 0] rfl ?_
    refine zv_widen (c2 := 0) (s2 := 0) (by first | exact Nat.le_of_ble_eq_true rfl | omega | (dsimp only; omega)) (by first | exact Nat.le_of_ble_eq_true rfl | omega | (dsimp only; omega)) ?_
    exact kj_X1_joins_74 X  h
theorem kj_X1_joins_49 {p : Program} {l : Launch} {e : Env} {s : State} {m : MethodId} {args : Array Value} {below : List Frame} {meth : Method} {c : Code} {D : zk_G} {g : zk_M} {b0 : Nat} (X : zk_X p s m args meth c D g b0 cX1_joins 10 "LandFolio$Folio" "joins" (some Jvm.ClassFile.FieldType.int)) {post : Int32 → zk_H → Prop}  {a0 : Option Nat} {a1 : Int32} {a2 : Int32} {a3 : Option Nat} {a4 : Option Nat} {P : zk_H}    (hh : wj_X1_joins_49 g post a0 a1 a2 a3 a4 P) : zV p l e ({ frames := 8, cells := 5, slots := 210, locals := 193 } : Room) s m args below meth c D b0 10 (0) (0) (MQ below (va_Qi post (zk_B D b0) (zk_A b0)) args s 5 210 (zk_A b0)) P 49 [(0, va_rf (a0)), (1, .int (a1)), (2, .int (a2)), (3, va_rf (a3)), (4, va_rf (a4))] [] := by
  have h := hh
  unfold wj_X1_joins_49 at h
  refine zv_iconst X (v := 0) dX1_joins_49 rfl ?_
  refine zv_widen (c2 := 0) (s2 := 0) (by first | exact Nat.le_of_ble_eq_true rfl | omega | (dsimp only; omega)) (by first | exact Nat.le_of_ble_eq_true rfl | omega | (dsimp only; omega)) ?_
  exact kj_X1_joins_50 X  h
theorem md_X1_joins : yX1_joins.cls ≠ "java/lang/invoke/MethodHandle" ∧ yX1_joins.cls ≠ "java/lang/invoke/VarHandle" ∧ (parseMethodDescriptor yX1_joins.desc).map (fun d => d.parameters.length) = some 2 := by decide +kernel
theorem wk_X1_joins (l : Launch) {D : zk_G} {g : zk_M} {b0 : Nat} {post : Int32 → zk_H → Prop} {this : Nat} {x1 : Int32} {x2 : Int32} {P : zk_H} (hh : wp_X1_joins g post this x1 x2 P) : Met l yX1_joins (ws_ yX1_joins cX1_joins 10 (some Jvm.ClassFile.FieldType.int)) ({ frames := 8, cells := 5, slots := 210, locals := 193 } : Room) (va_Pc [.ref this, .int (x1), .int (x2)] (zk_pre D g b0 P)) (va_Qi post (zk_B D b0) (zk_A b0)) 5 210 (zk_A b0) := by
  refine zk_enter "LandFolio$Folio" "joins" rfl rfl (plainFor_of_name (by decide)) [.ref this, .int (x1), .int (x2)] (Nat.le_of_ble_eq_true rfl) ?_
  intro p e s m args below meth c X
  refine zk_at0 (L' := [(0, va_rf (some this)), (1, .int (x1)), (2, .int (x2))]) (rfl) ?_
  have h := hh
  unfold wp_X1_joins at h
  refine zv_aload_n X 0 dX1_joins_0 rfl ?_
  refine zv_iload_n X 1 dX1_joins_1 rfl ?_
  refine zv_iload_n X 2 dX1_joins_2 rfl ?_
  refine zv_mmin X q1453 ⟨by first | decide | (dsimp only; decide), by first | decide | (dsimp only; decide)⟩ (zk_rs (Nat.le_of_ble_eq_true rfl)) (by first | exact Nat.le_of_ble_eq_true rfl | dsimp only; omega) (by first | exact Nat.le_of_ble_eq_true rfl | dsimp only; omega) dX1_joins_3 ?_
  refine zv_cqR ((zr_Vl X (As := [.int (zk_min x1 x2)]) (rest := []) h (fun a h => wk_X1_parcel l h) (zk_l1 ⟨_, rfl, cwV 1 X.hts (lw_V q501 q502 q503 q103 q504) rfl rfl rfl ⟨rfl, md_X1_parcel⟩ ⟨Nat.le_of_ble_eq_true rfl, Nat.le_of_ble_eq_true rfl⟩⟩) rfl rfl (zk_rs (Nat.le_of_ble_eq_true rfl)) dX1_joins_6 ⟨by first | exact Nat.le_of_ble_eq_true rfl | omega | (dsimp only; omega), by first | exact Nat.le_of_ble_eq_true rfl | omega | (dsimp only; omega)⟩)) (fun v6 h => ?_)
  refine zv_astore_n X (i := 3) (L' := [(3, va_rf (v6)), (0, va_rf (some this)), (1, .int (x1)), (2, .int (x2))]) dX1_joins_9 rfl (by decide) rfl ?_
  refine zv_aload_n X 1 dX1_joins_10 rfl ?_
  refine zv_iload_n X 2 dX1_joins_11 rfl ?_
  refine zv_iload_n X 3 dX1_joins_12 rfl ?_
  refine zv_mmax X q1454 ⟨by first | decide | (dsimp only; decide), by first | decide | (dsimp only; decide)⟩ (zk_rs (Nat.le_of_ble_eq_true rfl)) (by first | exact Nat.le_of_ble_eq_true rfl | dsimp only; omega) (by first | exact Nat.le_of_ble_eq_true rfl | dsimp only; omega) dX1_joins_13 ?_
  refine zv_cqR ((zr_Vl X (As := [.int (zk_max x1 x2)]) (rest := []) h (fun a h => wk_X1_parcel l h) (zk_l1 ⟨_, rfl, cwV 1 X.hts (lw_V q501 q502 q503 q103 q504) rfl rfl rfl ⟨rfl, md_X1_parcel⟩ ⟨Nat.le_of_ble_eq_true rfl, Nat.le_of_ble_eq_true rfl⟩⟩) rfl rfl (zk_rs (Nat.le_of_ble_eq_true rfl)) dX1_joins_16 ⟨by first | exact Nat.le_of_ble_eq_true rfl | omega | (dsimp only; omega), by first | exact Nat.le_of_ble_eq_true rfl | omega | (dsimp only; omega)⟩)) (fun v16 h => ?_)
  refine zv_astore X (L' := [(4, va_rf (v16)), (3, va_rf (v6)), (0, va_rf (some this)), (1, .int (x1)), (2, .int (x2))]) dX1_joins_19 (by decide) (by simp [zk_s1, zk_s2, zk_rc, zk_ic, zk_jc]) ?_
  refine zv_aload_n X 1 dX1_joins_21 rfl ?_
  refine zv_getf_i X fo_q308 dX1_joins_22 h (fun v22 h => ?_)
  refine zv_aload X 0 dX1_joins_25 rfl ?_
  refine zv_getf_i X fo_q308 dX1_joins_27 h (fun v27 h => ?_)
  refine zv_icmp_ne X (tgt := 49) dX1_joins_30 (by decide) h (fun h => ?_) (fun h => ?_)
  · refine zv_sub (L' := [(0, va_rf (some this)), (1, .int (x1)), (2, .int (x2)), (3, va_rf (v6)), (4, va_rf (v16))]) [2, 3, 4, 1, 0] rfl ?_
    refine zv_widen (c2 := 0) (s2 := 0) (by first | exact Nat.le_of_ble_eq_true rfl | omega | (dsimp only; omega)) (by first | exact Nat.le_of_ble_eq_true rfl | omega | (dsimp only; omega)) ?_
    exact kj_X1_joins_49 X  h
  · refine zv_aload_n X 1 dX1_joins_33 rfl ?_
    refine zv_getf_i X fo_q316 dX1_joins_34 h (fun v34 h => ?_)
    refine zv_aload X 0 dX1_joins_37 rfl ?_
    refine zv_getf_i X fo_q316 dX1_joins_39 h (fun v39 h => ?_)
    refine zv_icmp_ne X (tgt := 49) dX1_joins_42 (by decide) h (fun h => ?_) (fun h => ?_)
    · refine zv_sub (L' := [(0, va_rf (some this)), (1, .int (x1)), (2, .int (x2)), (3, va_rf (v6)), (4, va_rf (v16))]) [2, 3, 4, 1, 0] rfl ?_
      refine zv_widen (c2 := 0) (s2 := 0) (by first | exact Nat.le_of_ble_eq_true rfl | omega | (dsimp only; omega)) (by first | exact Nat.le_of_ble_eq_true rfl | omega | (dsimp only; omega)) ?_
      exact kj_X1_joins_49 X  h
    · refine zv_iconst X (v := 1) dX1_joins_45 rfl ?_
      refine zv_goto X (tgt := 50) dX1_joins_46 (by decide) ?_
      refine zv_sub (L' := [(0, va_rf (some this)), (1, .int (x1)), (2, .int (x2)), (3, va_rf (v6)), (4, va_rf (v16))]) [2, 3, 4, 1, 0] rfl ?_
      refine zv_widen (c2 := 0) (s2 := 0) (by first | exact Nat.le_of_ble_eq_true rfl | omega | (dsimp only; omega)) (by first | exact Nat.le_of_ble_eq_true rfl | omega | (dsimp only; omega)) ?_
      exact kj_X1_joins_50 X  h
