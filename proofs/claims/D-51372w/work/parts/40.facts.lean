/-! facts for the walks, printed by gen/run.py -/
theorem zk_nc0 : zk_nc 0 "LandFolio" 7 zd_0 := ⟨TX0, tyX0, rfl, in_X0, tyX0_ok, q141, q102, fun j hj => by
  rcases (show j = 0 ∨ j = 1 ∨ j = 2 ∨ j = 3 ∨ j = 4 ∨ j = 5 ∨ j = 6 by omega) with rfl | rfl | rfl | rfl | rfl | rfl | rfl <;> rfl⟩
theorem zk_nc1 : zk_nc 1 "LandFolio$Folio" 9 zd_1 := ⟨TX1, tyX1, rfl, in_X1, tyX1_ok, q152, q103, fun j hj => by
  rcases (show j = 0 ∨ j = 1 ∨ j = 2 ∨ j = 3 ∨ j = 4 ∨ j = 5 ∨ j = 6 ∨ j = 7 ∨ j = 8 by omega) with rfl | rfl | rfl | rfl | rfl | rfl | rfl | rfl | rfl <;> rfl⟩
theorem zk_nc2 : zk_nc 2 "LandFolio$Parcel" 9 zd_2 := ⟨TX2, tyX2, rfl, in_X2, tyX2_ok, q301, q111, fun j hj => by
  rcases (show j = 0 ∨ j = 1 ∨ j = 2 ∨ j = 3 ∨ j = 4 ∨ j = 5 ∨ j = 6 ∨ j = 7 ∨ j = 8 by omega) with rfl | rfl | rfl | rfl | rfl | rfl | rfl | rfl | rfl <;> rfl⟩
theorem zk_nc3 : zk_nc 3 "LandFolio$Deed" 3 zd_3 := ⟨TX3, tyX3, rfl, in_X3, tyX3_ok, q360, q112, fun j hj => by
  rcases (show j = 0 ∨ j = 1 ∨ j = 2 by omega) with rfl | rfl | rfl <;> rfl⟩
theorem zk_nc4 : zk_nc 4 "LandFolioModel" 19 zd_4 := ⟨TX4, tyX4, rfl, in_X4, tyX4_ok, q1989, q114, fun j hj => by
  rcases (show j = 0 ∨ j = 1 ∨ j = 2 ∨ j = 3 ∨ j = 4 ∨ j = 5 ∨ j = 6 ∨ j = 7 ∨ j = 8 ∨ j = 9 ∨ j = 10 ∨ j = 11 ∨ j = 12 ∨ j = 13 ∨ j = 14 ∨ j = 15 ∨ j = 16 ∨ j = 17 ∨ j = 18 by omega) with rfl | rfl | rfl | rfl | rfl | rfl | rfl | rfl | rfl | rfl | rfl | rfl | rfl | rfl | rfl | rfl | rfl | rfl | rfl <;> rfl⟩
theorem zk_nc5 : zk_nc 5 "LandFolio$Reader" 7 zd_5 := ⟨TX5, tyX5, rfl, in_X5, tyX5_ok, q729, q115, fun j hj => by
  rcases (show j = 0 ∨ j = 1 ∨ j = 2 ∨ j = 3 ∨ j = 4 ∨ j = 5 ∨ j = 6 by omega) with rfl | rfl | rfl | rfl | rfl | rfl | rfl <;> rfl⟩
theorem zk_nc6 : zk_nc 6 "LandFolio$Fault" 7 zd_6 := ⟨TX6, tyX6, rfl, in_X6, tyX6_ok, q1043, q124, fun j hj => by
  rcases (show j = 0 ∨ j = 1 ∨ j = 2 ∨ j = 3 ∨ j = 4 ∨ j = 5 ∨ j = 6 by omega) with rfl | rfl | rfl | rfl | rfl | rfl | rfl <;> rfl⟩
theorem zk_nc7 : zk_nc 7 "LandFolio$Debt" 6 zd_7 := ⟨TX8, tyX8, rfl, in_X8, tyX8_ok, q543, q128, fun j hj => by
  rcases (show j = 0 ∨ j = 1 ∨ j = 2 ∨ j = 3 ∨ j = 4 ∨ j = 5 by omega) with rfl | rfl | rfl | rfl | rfl | rfl <;> rfl⟩
theorem zk_nc8 : zk_nc 8 "LandFolio$Path" 6 zd_8 := ⟨TX9, tyX9, rfl, in_X9, tyX9_ok, q619, q129, fun j hj => by
  rcases (show j = 0 ∨ j = 1 ∨ j = 2 ∨ j = 3 ∨ j = 4 ∨ j = 5 by omega) with rfl | rfl | rfl | rfl | rfl | rfl <;> rfl⟩
theorem zk_nc9 : zk_nc 9 "LandFolio$Entry" 3 zd_9 := ⟨TX10, tyX10, rfl, in_X10, tyX10_ok, q1331, q130, fun j hj => by
  rcases (show j = 0 ∨ j = 1 ∨ j = 2 by omega) with rfl | rfl | rfl <;> rfl⟩
theorem zk_nc10 : zk_nc 10 "LandFolio$ByRank" 2 zd_10 := ⟨TX12, tyX12, rfl, in_X12, tyX12_ok, q1629, q136, fun j hj => by
  rcases (show j = 0 ∨ j = 1 by omega) with rfl | rfl <;> rfl⟩
theorem zk_nc11 : zk_nc 11 "LandFolio$ByRank$1" 2 zd_11 := ⟨TX13, tyX13, rfl, in_X13, tyX13_ok, q1646, q137, fun j hj => by
  rcases (show j = 0 ∨ j = 1 by omega) with rfl | rfl <;> rfl⟩
theorem zk_nc12 : zk_nc 12 "java/util/ArrayList" 3 zd_12 := ⟨TJ2, tyJ2, rfl, in_J2, tyJ2_ok, q158, q106, fun j hj => by
  rcases (show j = 0 ∨ j = 1 ∨ j = 2 by omega) with rfl | rfl | rfl <;> rfl⟩
theorem zk_nc13 : zk_nc 13 "java/util/ArrayDeque" 3 zd_13 := ⟨TJ6, tyJ6, rfl, in_J6, tyJ6_ok, q385, q113, fun j hj => by
  rcases (show j = 0 ∨ j = 1 ∨ j = 2 by omega) with rfl | rfl | rfl <;> rfl⟩
theorem zk_nc14 : zk_nc 14 "java/lang/StringBuilder" 4 zd_14 := ⟨TJ8, tyJ8, rfl, in_J8, tyJ8_ok, q751, q117, fun j hj => by
  rcases (show j = 0 ∨ j = 1 ∨ j = 2 ∨ j = 3 by omega) with rfl | rfl | rfl | rfl <;> rfl⟩
theorem zk_nc15 : zk_nc 15 "java/lang/String" 4 zd_15 := ⟨TJ9, tyJ9, rfl, in_J9, tyJ9_ok, q869, q118, fun j hj => by
  rcases (show j = 0 ∨ j = 1 ∨ j = 2 ∨ j = 3 by omega) with rfl | rfl | rfl | rfl <;> rfl⟩
theorem zk_nc16 : zk_nc 16 "java/util/BitSet" 3 zd_16 := ⟨TJ16, tyJ16, rfl, in_J16, tyJ16_ok, q564, q126, fun j hj => by
  rcases (show j = 0 ∨ j = 1 ∨ j = 2 by omega) with rfl | rfl | rfl <;> rfl⟩
theorem zk_cs0 : ∀ ci ∈ [1], zk_ca ci "LandFolio$Folio" := zk_l1 ⟨_, rfl, Or.inr rfl⟩
theorem zk_cs1 : ∀ ci ∈ [7, 8], zk_ca ci "LandFolio$Burden" := zk_l2 ⟨_, rfl, Or.inl (zk_nwm q2616 rfl)⟩ ⟨_, rfl, Or.inl (zk_nwm q2617 rfl)⟩
theorem zk_cs2 : ∀ ci ∈ [2], zk_ca ci "LandFolio$Parcel" := zk_l1 ⟨_, rfl, Or.inr rfl⟩
theorem zk_cs3 : ∀ ci ∈ [15], zk_ca ci "java/lang/String" := zk_l1 ⟨_, rfl, Or.inr rfl⟩
theorem zk_cs4 : ∀ ci ∈ [9], zk_ca ci "LandFolio$Entry" := zk_l1 ⟨_, rfl, Or.inr rfl⟩
theorem zk_cs5 : ∀ ci ∈ [3], zk_ca ci "LandFolio$Deed" := zk_l1 ⟨_, rfl, Or.inr rfl⟩
theorem zk_cs6 : ∀ ci ∈ [8], zk_ca ci "LandFolio$Path" := zk_l1 ⟨_, rfl, Or.inr rfl⟩
theorem zk_cs7 : ∀ ci ∈ [7], zk_ca ci "LandFolio$Debt" := zk_l1 ⟨_, rfl, Or.inr rfl⟩
theorem fo_q192 : ∀ ci ∈ [1], zk_fo "LandFolio" 7 4 ci := zk_l1 ⟨RX1, TX1, 9, _, rfl, in_X1, by decide, (Or.inr ⟨_, zk_nwm q192 rfl⟩), (Or.inl rfl)⟩
theorem fo_q402 : ∀ ci ∈ [0], zk_fo "LandFolio" 32 0 ci := zk_l1 ⟨RX0, TX0, 7, _, rfl, in_X0, by decide, (Or.inl q402), (Or.inl rfl)⟩
theorem fo_q403 : ∀ ci ∈ [0], zk_fo "LandFolio" 39 1 ci := zk_l1 ⟨RX0, TX0, 7, _, rfl, in_X0, by decide, (Or.inl q403), (Or.inl rfl)⟩
theorem fo_q404 : ∀ ci ∈ [0], zk_fo "LandFolio" 43 2 ci := zk_l1 ⟨RX0, TX0, 7, _, rfl, in_X0, by decide, (Or.inl q404), (Or.inl rfl)⟩
theorem fo_q406 : ∀ ci ∈ [0], zk_fo "LandFolio" 47 3 ci := zk_l1 ⟨RX0, TX0, 7, _, rfl, in_X0, by decide, (Or.inl q406), (Or.inl rfl)⟩
theorem fo_q409 : ∀ ci ∈ [0], zk_fo "LandFolio" 51 5 ci := zk_l1 ⟨RX0, TX0, 7, _, rfl, in_X0, by decide, (Or.inl q409), (Or.inl rfl)⟩
theorem fo_q410 : ∀ ci ∈ [0], zk_fo "LandFolio" 55 6 ci := zk_l1 ⟨RX0, TX0, 7, _, rfl, in_X0, by decide, (Or.inl q410), (Or.inl rfl)⟩
theorem fo_q195 : ∀ ci ∈ [1], zk_fo "LandFolio" 89 5 ci := zk_l1 ⟨RX1, TX1, 9, _, rfl, in_X1, by decide, (Or.inr ⟨_, zk_nwm q195 rfl⟩), (Or.inl rfl)⟩
theorem fo_q201 : ∀ ci ∈ [1], zk_fo "LandFolio" 97 7 ci := zk_l1 ⟨RX1, TX1, 9, _, rfl, in_X1, by decide, (Or.inr ⟨_, zk_nwm q201 rfl⟩), (Or.inl rfl)⟩
theorem fo_q184 : ∀ ci ∈ [1], zk_fo "LandFolio" 100 0 ci := zk_l1 ⟨RX1, TX1, 9, _, rfl, in_X1, by decide, (Or.inr ⟨_, zk_nwm q184 rfl⟩), (Or.inl rfl)⟩
theorem fo_q186 : ∀ ci ∈ [1], zk_fo "LandFolio" 103 1 ci := zk_l1 ⟨RX1, TX1, 9, _, rfl, in_X1, by decide, (Or.inr ⟨_, zk_nwm q186 rfl⟩), (Or.inl rfl)⟩
theorem fo_q318 : ∀ ci ∈ [2], zk_fo "LandFolio" 106 3 ci := zk_l1 ⟨RX2, TX2, 9, _, rfl, in_X2, by decide, (Or.inr ⟨_, zk_nwm q318 rfl⟩), (Or.inl rfl)⟩
theorem fo_q314 : ∀ ci ∈ [2], zk_fo "LandFolio" 109 2 ci := zk_l1 ⟨RX2, TX2, 9, _, rfl, in_X2, by decide, (Or.inr ⟨_, zk_nwm q314 rfl⟩), (Or.inl rfl)⟩
theorem fo_q408 : ∀ ci ∈ [0], zk_fo "LandFolio" 124 4 ci := zk_l1 ⟨RX0, TX0, 7, _, rfl, in_X0, by decide, (Or.inl q408), (Or.inl rfl)⟩
theorem fo_q1090 : ∀ ci ∈ [6], zk_fo "LandFolio" 170 6 ci := zk_l1 ⟨RX6, TX6, 7, _, rfl, in_X6, by decide, (Or.inl q1090), (Or.inl rfl)⟩
theorem fo_q1006 : ∀ ci ∈ [5], zk_fo "LandFolio" 173 0 ci := zk_l1 ⟨RX5, TX5, 7, _, rfl, in_X5, by decide, (Or.inr ⟨_, zk_nwm q1006 rfl⟩), (Or.inl rfl)⟩
theorem fo_q198 : ∀ ci ∈ [1], zk_fo "LandFolio" 227 6 ci := zk_l1 ⟨RX1, TX1, 9, _, rfl, in_X1, by decide, (Or.inr ⟨_, zk_nwm q198 rfl⟩), (Or.inl rfl)⟩
theorem fo_q376 : ∀ ci ∈ [3], zk_fo "LandFolio" 242 2 ci := zk_l1 ⟨RX3, TX3, 3, _, rfl, in_X3, by decide, (Or.inr ⟨_, zk_nwm q376 rfl⟩), (Or.inl rfl)⟩
theorem fo_q190 : ∀ ci ∈ [1], zk_fo "LandFolio" 256 3 ci := zk_l1 ⟨RX1, TX1, 9, _, rfl, in_X1, by decide, (Or.inr ⟨_, zk_nwm q190 rfl⟩), (Or.inl rfl)⟩
theorem fo_q591 : ∀ ci ∈ [7], zk_fo "LandFolio" 287 5 ci := zk_l1 ⟨RX8, TX8, 6, _, rfl, in_X8, by decide, (Or.inr ⟨_, zk_nwm q591 rfl⟩), (Or.inl rfl)⟩
theorem fo_q601 : ∀ ci ∈ [7, 8], zk_fo "LandFolio" 290 3 ci := zk_l2 ⟨RX8, TX8, 6, _, rfl, in_X8, by decide, (Or.inr ⟨_, zk_nwm q601 rfl⟩), (Or.inl rfl)⟩ ⟨RX9, TX9, 6, _, rfl, in_X9, by decide, (Or.inr ⟨_, zk_nwm q601 rfl⟩), (Or.inl rfl)⟩
theorem fo_q598 : ∀ ci ∈ [7, 8], zk_fo "LandFolio" 314 2 ci := zk_l2 ⟨RX8, TX8, 6, _, rfl, in_X8, by decide, (Or.inr ⟨_, zk_nwm q598 rfl⟩), (Or.inl rfl)⟩ ⟨RX9, TX9, 6, _, rfl, in_X9, by decide, (Or.inr ⟨_, zk_nwm q598 rfl⟩), (Or.inl rfl)⟩
theorem fo_q332 : ∀ ci ∈ [2], zk_fo "LandFolio" 318 8 ci := zk_l1 ⟨RX2, TX2, 9, _, rfl, in_X2, by decide, (Or.inr ⟨_, zk_nwm q332 rfl⟩), (Or.inl rfl)⟩
theorem fo_q188 : ∀ ci ∈ [1], zk_fo "LandFolio" 325 2 ci := zk_l1 ⟨RX1, TX1, 9, _, rfl, in_X1, by decide, (Or.inr ⟨_, zk_nwm q188 rfl⟩), (Or.inl rfl)⟩
theorem fo_q204 : ∀ ci ∈ [1], zk_fo "LandFolio" 354 8 ci := zk_l1 ⟨RX1, TX1, 9, _, rfl, in_X1, by decide, (Or.inr ⟨_, zk_nwm q204 rfl⟩), (Or.inl rfl)⟩
theorem fo_q309 : ∀ ci ∈ [2], zk_fo "LandFolio" 374 0 ci := zk_l1 ⟨RX2, TX2, 9, _, rfl, in_X2, by decide, (Or.inr ⟨_, zk_nwm q309 rfl⟩), (Or.inl rfl)⟩
theorem fo_q312 : ∀ ci ∈ [2], zk_fo "LandFolio" 377 1 ci := zk_l1 ⟨RX2, TX2, 9, _, rfl, in_X2, by decide, (Or.inr ⟨_, zk_nwm q312 rfl⟩), (Or.inl rfl)⟩
theorem fo_q321 : ∀ ci ∈ [2], zk_fo "LandFolio" 383 4 ci := zk_l1 ⟨RX2, TX2, 9, _, rfl, in_X2, by decide, (Or.inr ⟨_, zk_nwm q321 rfl⟩), (Or.inl rfl)⟩
theorem fo_q328 : ∀ ci ∈ [2], zk_fo "LandFolio" 386 7 ci := zk_l1 ⟨RX2, TX2, 9, _, rfl, in_X2, by decide, (Or.inr ⟨_, zk_nwm q328 rfl⟩), (Or.inl rfl)⟩
theorem fo_q323 : ∀ ci ∈ [2], zk_fo "LandFolio" 404 5 ci := zk_l1 ⟨RX2, TX2, 9, _, rfl, in_X2, by decide, (Or.inr ⟨_, zk_nwm q323 rfl⟩), (Or.inl rfl)⟩
theorem fo_q325 : ∀ ci ∈ [2], zk_fo "LandFolio" 407 6 ci := zk_l1 ⟨RX2, TX2, 9, _, rfl, in_X2, by decide, (Or.inr ⟨_, zk_nwm q325 rfl⟩), (Or.inl rfl)⟩
theorem fo_q588 : ∀ ci ∈ [7], zk_fo "LandFolio" 428 4 ci := zk_l1 ⟨RX8, TX8, 6, _, rfl, in_X8, by decide, (Or.inr ⟨_, zk_nwm q588 rfl⟩), (Or.inl rfl)⟩
theorem fo_q632 : ∀ ci ∈ [8], zk_fo "LandFolio" 437 4 ci := zk_l1 ⟨RX9, TX9, 6, _, rfl, in_X9, by decide, (Or.inr ⟨_, zk_nwm q632 rfl⟩), (Or.inl rfl)⟩
theorem fo_q635 : ∀ ci ∈ [8], zk_fo "LandFolio" 438 5 ci := zk_l1 ⟨RX9, TX9, 6, _, rfl, in_X9, by decide, (Or.inr ⟨_, zk_nwm q635 rfl⟩), (Or.inl rfl)⟩
theorem fo_q599 : ∀ ci ∈ [7, 8], zk_fo "LandFolio$Burden" 10 3 ci := zk_l2 ⟨RX8, TX8, 6, _, rfl, in_X8, by decide, (Or.inl q599), (Or.inl rfl)⟩ ⟨RX9, TX9, 6, _, rfl, in_X9, by decide, (Or.inl q599), (Or.inl rfl)⟩
theorem fo_q592 : ∀ ci ∈ [7, 8], zk_fo "LandFolio$Burden" 16 0 ci := zk_l2 ⟨RX8, TX8, 6, _, rfl, in_X8, by decide, (Or.inl q592), (Or.inl rfl)⟩ ⟨RX9, TX9, 6, _, rfl, in_X9, by decide, (Or.inl q592), (Or.inl rfl)⟩
theorem fo_q593 : ∀ ci ∈ [7, 8], zk_fo "LandFolio$Burden" 20 1 ci := zk_l2 ⟨RX8, TX8, 6, _, rfl, in_X8, by decide, (Or.inl q593), (Or.inl rfl)⟩ ⟨RX9, TX9, 6, _, rfl, in_X9, by decide, (Or.inl q593), (Or.inl rfl)⟩
theorem fo_q594 : ∀ ci ∈ [7, 8], zk_fo "LandFolio$Burden" 23 2 ci := zk_l2 ⟨RX8, TX8, 6, _, rfl, in_X8, by decide, (Or.inl q594), (Or.inl rfl)⟩ ⟨RX9, TX9, 6, _, rfl, in_X9, by decide, (Or.inl q594), (Or.inl rfl)⟩
theorem fo_q1634 : ∀ ci ∈ [10], zk_fo "LandFolio$ByRank" 7 0 ci := zk_l1 ⟨RX12, TX12, 2, _, rfl, in_X12, by decide, (Or.inl q1634), (Or.inl rfl)⟩
theorem fo_q1635 : ∀ ci ∈ [10], zk_fo "LandFolio$ByRank" 13 1 ci := zk_l1 ⟨RX12, TX12, 2, _, rfl, in_X12, by decide, (Or.inl q1635), (Or.inl rfl)⟩
theorem fo_q200 : ∀ ci ∈ [1], zk_fo "LandFolio$ByRank" 17 7 ci := zk_l1 ⟨RX1, TX1, 9, _, rfl, in_X1, by decide, (Or.inr ⟨_, zk_nwm q200 rfl⟩), (Or.inl rfl)⟩
theorem fo_q595 : ∀ ci ∈ [7, 8], zk_fo "LandFolio$ByRank" 39 2 ci := zk_l2 ⟨RX8, TX8, 6, _, rfl, in_X8, by decide, (Or.inr ⟨_, zk_nwm q595 rfl⟩), (Or.inl rfl)⟩ ⟨RX9, TX9, 6, _, rfl, in_X9, by decide, (Or.inr ⟨_, zk_nwm q595 rfl⟩), (Or.inl rfl)⟩
theorem fo_q1659 : ∀ ci ∈ [11], zk_fo "LandFolio$ByRank$1" 1 1 ci := zk_l1 ⟨RX13, TX13, 2, _, rfl, in_X13, by decide, (Or.inl q1659), (Or.inl rfl)⟩
theorem fo_q1658 : ∀ ci ∈ [11], zk_fo "LandFolio$ByRank$1" 19 0 ci := zk_l1 ⟨RX13, TX13, 2, _, rfl, in_X13, by decide, (Or.inl q1658), (Or.inl rfl)⟩
theorem fo_q596 : ∀ ci ∈ [7, 8], zk_fo "LandFolio$ByRank$1" 26 2 ci := zk_l2 ⟨RX8, TX8, 6, _, rfl, in_X8, by decide, (Or.inr ⟨_, zk_nwm q596 rfl⟩), (Or.inl rfl)⟩ ⟨RX9, TX9, 6, _, rfl, in_X9, by decide, (Or.inr ⟨_, zk_nwm q596 rfl⟩), (Or.inl rfl)⟩
theorem fo_q587 : ∀ ci ∈ [7], zk_fo "LandFolio$Debt" 7 4 ci := zk_l1 ⟨RX8, TX8, 6, _, rfl, in_X8, by decide, (Or.inl q587), (Or.inl rfl)⟩
theorem fo_q589 : ∀ ci ∈ [7], zk_fo "LandFolio$Debt" 13 5 ci := zk_l1 ⟨RX8, TX8, 6, _, rfl, in_X8, by decide, (Or.inl q589), (Or.inl rfl)⟩
theorem fo_q373 : ∀ ci ∈ [3], zk_fo "LandFolio$Deed" 18 2 ci := zk_l1 ⟨RX3, TX3, 3, _, rfl, in_X3, by decide, (Or.inl q373), (Or.inl rfl)⟩
theorem fo_q1336 : ∀ ci ∈ [9], zk_fo "LandFolio$Entry" 7 0 ci := zk_l1 ⟨RX10, TX10, 3, _, rfl, in_X10, by decide, (Or.inl q1336), (Or.inl rfl)⟩
theorem fo_q1337 : ∀ ci ∈ [9], zk_fo "LandFolio$Entry" 13 1 ci := zk_l1 ⟨RX10, TX10, 3, _, rfl, in_X10, by decide, (Or.inl q1337), (Or.inl rfl)⟩
theorem fo_q1338 : ∀ ci ∈ [9], zk_fo "LandFolio$Entry" 16 2 ci := zk_l1 ⟨RX10, TX10, 3, _, rfl, in_X10, by decide, (Or.inl q1338), (Or.inl rfl)⟩
theorem fo_q191 : ∀ ci ∈ [1], zk_fo "LandFolio$Folio" 12 4 ci := zk_l1 ⟨RX1, TX1, 9, _, rfl, in_X1, by decide, (Or.inl q191), (Or.inl rfl)⟩
theorem fo_q194 : ∀ ci ∈ [1], zk_fo "LandFolio$Folio" 18 5 ci := zk_l1 ⟨RX1, TX1, 9, _, rfl, in_X1, by decide, (Or.inl q194), (Or.inl rfl)⟩
theorem fo_q197 : ∀ ci ∈ [1], zk_fo "LandFolio$Folio" 21 6 ci := zk_l1 ⟨RX1, TX1, 9, _, rfl, in_X1, by decide, (Or.inl q197), (Or.inl rfl)⟩
theorem fo_q199 : ∀ ci ∈ [1], zk_fo "LandFolio$Folio" 24 7 ci := zk_l1 ⟨RX1, TX1, 9, _, rfl, in_X1, by decide, (Or.inl q199), (Or.inl rfl)⟩
theorem fo_q203 : ∀ ci ∈ [1], zk_fo "LandFolio$Folio" 27 8 ci := zk_l1 ⟨RX1, TX1, 9, _, rfl, in_X1, by decide, (Or.inl q203), (Or.inl rfl)⟩
theorem fo_q183 : ∀ ci ∈ [1], zk_fo "LandFolio$Folio" 31 0 ci := zk_l1 ⟨RX1, TX1, 9, _, rfl, in_X1, by decide, (Or.inl q183), (Or.inl rfl)⟩
theorem fo_q185 : ∀ ci ∈ [1], zk_fo "LandFolio$Folio" 35 1 ci := zk_l1 ⟨RX1, TX1, 9, _, rfl, in_X1, by decide, (Or.inl q185), (Or.inl rfl)⟩
theorem fo_q187 : ∀ ci ∈ [1], zk_fo "LandFolio$Folio" 38 2 ci := zk_l1 ⟨RX1, TX1, 9, _, rfl, in_X1, by decide, (Or.inl q187), (Or.inl rfl)⟩
theorem fo_q189 : ∀ ci ∈ [1], zk_fo "LandFolio$Folio" 41 3 ci := zk_l1 ⟨RX1, TX1, 9, _, rfl, in_X1, by decide, (Or.inl q189), (Or.inl rfl)⟩
theorem fo_q370 : ∀ ci ∈ [3], zk_fo "LandFolio$Folio" 99 0 ci := zk_l1 ⟨RX3, TX3, 3, _, rfl, in_X3, by decide, (Or.inr ⟨_, zk_nwm q370 rfl⟩), (Or.inl rfl)⟩
theorem fo_q372 : ∀ ci ∈ [3], zk_fo "LandFolio$Folio" 101 1 ci := zk_l1 ⟨RX3, TX3, 3, _, rfl, in_X3, by decide, (Or.inr ⟨_, zk_nwm q372 rfl⟩), (Or.inl rfl)⟩
theorem fo_q331 : ∀ ci ∈ [2], zk_fo "LandFolio$Folio" 126 8 ci := zk_l1 ⟨RX2, TX2, 9, _, rfl, in_X2, by decide, (Or.inr ⟨_, zk_nwm q331 rfl⟩), (Or.inl rfl)⟩
theorem fo_q590 : ∀ ci ∈ [7], zk_fo "LandFolio$Folio" 139 5 ci := zk_l1 ⟨RX8, TX8, 6, _, rfl, in_X8, by decide, (Or.inr ⟨_, zk_nwm q590 rfl⟩), (Or.inl rfl)⟩
theorem fo_q597 : ∀ ci ∈ [7, 8], zk_fo "LandFolio$Folio" 142 2 ci := zk_l2 ⟨RX8, TX8, 6, _, rfl, in_X8, by decide, (Or.inr ⟨_, zk_nwm q597 rfl⟩), (Or.inl rfl)⟩ ⟨RX9, TX9, 6, _, rfl, in_X9, by decide, (Or.inr ⟨_, zk_nwm q597 rfl⟩), (Or.inl rfl)⟩
theorem fo_q600 : ∀ ci ∈ [7, 8], zk_fo "LandFolio$Folio" 145 3 ci := zk_l2 ⟨RX8, TX8, 6, _, rfl, in_X8, by decide, (Or.inr ⟨_, zk_nwm q600 rfl⟩), (Or.inl rfl)⟩ ⟨RX9, TX9, 6, _, rfl, in_X9, by decide, (Or.inr ⟨_, zk_nwm q600 rfl⟩), (Or.inl rfl)⟩
theorem fo_q631 : ∀ ci ∈ [8], zk_fo "LandFolio$Folio" 175 4 ci := zk_l1 ⟨RX9, TX9, 6, _, rfl, in_X9, by decide, (Or.inr ⟨_, zk_nwm q631 rfl⟩), (Or.inl rfl)⟩
theorem fo_q634 : ∀ ci ∈ [8], zk_fo "LandFolio$Folio" 178 5 ci := zk_l1 ⟨RX9, TX9, 6, _, rfl, in_X9, by decide, (Or.inr ⟨_, zk_nwm q634 rfl⟩), (Or.inl rfl)⟩
theorem fo_q375 : ∀ ci ∈ [3], zk_fo "LandFolio$Folio" 195 2 ci := zk_l1 ⟨RX3, TX3, 3, _, rfl, in_X3, by decide, (Or.inr ⟨_, zk_nwm q375 rfl⟩), (Or.inl rfl)⟩
theorem fo_q316 : ∀ ci ∈ [2], zk_fo "LandFolio$Folio" 199 2 ci := zk_l1 ⟨RX2, TX2, 9, _, rfl, in_X2, by decide, (Or.inr ⟨_, zk_nwm q316 rfl⟩), (Or.inl rfl)⟩
theorem fo_q319 : ∀ ci ∈ [2], zk_fo "LandFolio$Folio" 200 3 ci := zk_l1 ⟨RX2, TX2, 9, _, rfl, in_X2, by decide, (Or.inr ⟨_, zk_nwm q319 rfl⟩), (Or.inl rfl)⟩
theorem fo_q308 : ∀ ci ∈ [2], zk_fo "LandFolio$Folio" 201 0 ci := zk_l1 ⟨RX2, TX2, 9, _, rfl, in_X2, by decide, (Or.inr ⟨_, zk_nwm q308 rfl⟩), (Or.inl rfl)⟩
theorem fo_q311 : ∀ ci ∈ [2], zk_fo "LandFolio$Folio" 202 1 ci := zk_l1 ⟨RX2, TX2, 9, _, rfl, in_X2, by decide, (Or.inr ⟨_, zk_nwm q311 rfl⟩), (Or.inl rfl)⟩
theorem fo_q326 : ∀ ci ∈ [2], zk_fo "LandFolio$Parcel" 9 7 ci := zk_l1 ⟨RX2, TX2, 9, _, rfl, in_X2, by decide, (Or.inl q326), (Or.inl rfl)⟩
theorem fo_q306 : ∀ ci ∈ [2], zk_fo "LandFolio$Parcel" 15 0 ci := zk_l1 ⟨RX2, TX2, 9, _, rfl, in_X2, by decide, (Or.inl q306), (Or.inl rfl)⟩
theorem fo_q310 : ∀ ci ∈ [2], zk_fo "LandFolio$Parcel" 18 1 ci := zk_l1 ⟨RX2, TX2, 9, _, rfl, in_X2, by decide, (Or.inl q310), (Or.inl rfl)⟩
theorem fo_q313 : ∀ ci ∈ [2], zk_fo "LandFolio$Parcel" 21 2 ci := zk_l1 ⟨RX2, TX2, 9, _, rfl, in_X2, by decide, (Or.inl q313), (Or.inl rfl)⟩
theorem fo_q317 : ∀ ci ∈ [2], zk_fo "LandFolio$Parcel" 24 3 ci := zk_l1 ⟨RX2, TX2, 9, _, rfl, in_X2, by decide, (Or.inl q317), (Or.inl rfl)⟩
theorem fo_q320 : ∀ ci ∈ [2], zk_fo "LandFolio$Parcel" 27 4 ci := zk_l1 ⟨RX2, TX2, 9, _, rfl, in_X2, by decide, (Or.inl q320), (Or.inl rfl)⟩
theorem fo_q322 : ∀ ci ∈ [2], zk_fo "LandFolio$Parcel" 30 5 ci := zk_l1 ⟨RX2, TX2, 9, _, rfl, in_X2, by decide, (Or.inl q322), (Or.inl rfl)⟩
theorem fo_q324 : ∀ ci ∈ [2], zk_fo "LandFolio$Parcel" 33 6 ci := zk_l1 ⟨RX2, TX2, 9, _, rfl, in_X2, by decide, (Or.inl q324), (Or.inl rfl)⟩
theorem fo_q330 : ∀ ci ∈ [2], zk_fo "LandFolio$Parcel" 39 8 ci := zk_l1 ⟨RX2, TX2, 9, _, rfl, in_X2, by decide, (Or.inl q330), (Or.inl rfl)⟩
theorem fo_q630 : ∀ ci ∈ [8], zk_fo "LandFolio$Path" 7 4 ci := zk_l1 ⟨RX9, TX9, 6, _, rfl, in_X9, by decide, (Or.inl q630), (Or.inl rfl)⟩
theorem fo_q633 : ∀ ci ∈ [8], zk_fo "LandFolio$Path" 13 5 ci := zk_l1 ⟨RX9, TX9, 6, _, rfl, in_X9, by decide, (Or.inl q633), (Or.inl rfl)⟩
theorem fo_q1012 : ∀ ci ∈ [5], zk_fo "LandFolio$Reader" 3 6 ci := zk_l1 ⟨RX5, TX5, 7, _, rfl, in_X5, by decide, (Or.inl q1012), (Or.inl rfl)⟩
theorem fo_q1005 : ∀ ci ∈ [5], zk_fo "LandFolio$Reader" 18 0 ci := zk_l1 ⟨RX5, TX5, 7, _, rfl, in_X5, by decide, (Or.inl q1005), (Or.inl rfl)⟩
theorem fo_q1010 : ∀ ci ∈ [5], zk_fo "LandFolio$Reader" 24 4 ci := zk_l1 ⟨RX5, TX5, 7, _, rfl, in_X5, by decide, (Or.inl q1010), (Or.inl rfl)⟩
theorem fo_q1007 : ∀ ci ∈ [5], zk_fo "LandFolio$Reader" 31 1 ci := zk_l1 ⟨RX5, TX5, 7, _, rfl, in_X5, by decide, (Or.inl q1007), (Or.inl rfl)⟩
theorem fo_q407 : ∀ ci ∈ [0], zk_fo "LandFolio$Reader" 35 4 ci := zk_l1 ⟨RX0, TX0, 7, _, rfl, in_X0, by decide, (Or.inr ⟨_, zk_nwm q407 rfl⟩), (Or.inl rfl)⟩
theorem fo_q405 : ∀ ci ∈ [0], zk_fo "LandFolio$Reader" 38 3 ci := zk_l1 ⟨RX0, TX0, 7, _, rfl, in_X0, by decide, (Or.inr ⟨_, zk_nwm q405 rfl⟩), (Or.inl rfl)⟩
theorem fo_q1008 : ∀ ci ∈ [5], zk_fo "LandFolio$Reader" 50 2 ci := zk_l1 ⟨RX5, TX5, 7, _, rfl, in_X5, by decide, (Or.inl q1008), (Or.inl rfl)⟩
theorem fo_q1009 : ∀ ci ∈ [5], zk_fo "LandFolio$Reader" 53 3 ci := zk_l1 ⟨RX5, TX5, 7, _, rfl, in_X5, by decide, (Or.inl q1009), (Or.inl rfl)⟩
theorem fo_q1011 : ∀ ci ∈ [5], zk_fo "LandFolio$Reader" 81 5 ci := zk_l1 ⟨RX5, TX5, 7, _, rfl, in_X5, by decide, (Or.inl q1011), (Or.inl rfl)⟩
theorem fo_q196 : ∀ ci ∈ [1], zk_fo "LandFolio$Reader" 103 5 ci := zk_l1 ⟨RX1, TX1, 9, _, rfl, in_X1, by decide, (Or.inr ⟨_, zk_nwm q196 rfl⟩), (Or.inl rfl)⟩
theorem fo_q193 : ∀ ci ∈ [1], zk_fo "LandFolio$Reader" 122 4 ci := zk_l1 ⟨RX1, TX1, 9, _, rfl, in_X1, by decide, (Or.inr ⟨_, zk_nwm q193 rfl⟩), (Or.inl rfl)⟩
theorem fo_q374 : ∀ ci ∈ [3], zk_fo "LandFolio$Reader" 167 2 ci := zk_l1 ⟨RX3, TX3, 3, _, rfl, in_X3, by decide, (Or.inr ⟨_, zk_nwm q374 rfl⟩), (Or.inl rfl)⟩
theorem fo_q202 : ∀ ci ∈ [1], zk_fo "LandFolio$Reader" 181 7 ci := zk_l1 ⟨RX1, TX1, 9, _, rfl, in_X1, by decide, (Or.inr ⟨_, zk_nwm q202 rfl⟩), (Or.inl rfl)⟩
theorem fo_q307 : ∀ ci ∈ [2], zk_fo "LandFolio$Reader" 193 0 ci := zk_l1 ⟨RX2, TX2, 9, _, rfl, in_X2, by decide, (Or.inr ⟨_, zk_nwm q307 rfl⟩), (Or.inl rfl)⟩
theorem fo_q315 : ∀ ci ∈ [2], zk_fo "LandFolio$Reader" 196 2 ci := zk_l1 ⟨RX2, TX2, 9, _, rfl, in_X2, by decide, (Or.inr ⟨_, zk_nwm q315 rfl⟩), (Or.inl rfl)⟩
theorem fo_q329 : ∀ ci ∈ [2], zk_fo "LandFolio$Reason$3" 13 8 ci := zk_l1 ⟨RX2, TX2, 9, _, rfl, in_X2, by decide, (Or.inr ⟨_, zk_nwm q329 rfl⟩), (Or.inl rfl)⟩
theorem fo_q2007 : ∀ ci ∈ [4], zk_fo "LandFolioModel" 7 0 ci := zk_l1 ⟨RX4, TX4, 19, _, rfl, in_X4, by decide, (Or.inl q2007), (Or.inl rfl)⟩
theorem fo_q2008 : ∀ ci ∈ [4], zk_fo "LandFolioModel" 13 1 ci := zk_l1 ⟨RX4, TX4, 19, _, rfl, in_X4, by decide, (Or.inl q2008), (Or.inl rfl)⟩
theorem fo_q2009 : ∀ ci ∈ [4], zk_fo "LandFolioModel" 16 2 ci := zk_l1 ⟨RX4, TX4, 19, _, rfl, in_X4, by decide, (Or.inl q2009), (Or.inl rfl)⟩
theorem fo_q2010 : ∀ ci ∈ [4], zk_fo "LandFolioModel" 19 3 ci := zk_l1 ⟨RX4, TX4, 19, _, rfl, in_X4, by decide, (Or.inl q2010), (Or.inl rfl)⟩
theorem fo_q2011 : ∀ ci ∈ [4], zk_fo "LandFolioModel" 22 4 ci := zk_l1 ⟨RX4, TX4, 19, _, rfl, in_X4, by decide, (Or.inl q2011), (Or.inl rfl)⟩
theorem fo_q2012 : ∀ ci ∈ [4], zk_fo "LandFolioModel" 25 5 ci := zk_l1 ⟨RX4, TX4, 19, _, rfl, in_X4, by decide, (Or.inl q2012), (Or.inl rfl)⟩
theorem fo_q2014 : ∀ ci ∈ [4], zk_fo "LandFolioModel" 29 7 ci := zk_l1 ⟨RX4, TX4, 19, _, rfl, in_X4, by decide, (Or.inl q2014), (Or.inl rfl)⟩
theorem fo_q2016 : ∀ ci ∈ [4], zk_fo "LandFolioModel" 32 9 ci := zk_l1 ⟨RX4, TX4, 19, _, rfl, in_X4, by decide, (Or.inl q2016), (Or.inl rfl)⟩
theorem fo_q2022 : ∀ ci ∈ [4], zk_fo "LandFolioModel" 36 16 ci := zk_l1 ⟨RX4, TX4, 19, _, rfl, in_X4, by decide, (Or.inl q2022), (Or.inl rfl)⟩
theorem fo_q2023 : ∀ ci ∈ [4], zk_fo "LandFolioModel" 39 17 ci := zk_l1 ⟨RX4, TX4, 19, _, rfl, in_X4, by decide, (Or.inl q2023), (Or.inl rfl)⟩
theorem fo_q2015 : ∀ ci ∈ [4], zk_fo "LandFolioModel" 134 8 ci := zk_l1 ⟨RX4, TX4, 19, _, rfl, in_X4, by decide, (Or.inl q2015), (Or.inl rfl)⟩
theorem fo_q2017 : ∀ ci ∈ [4], zk_fo "LandFolioModel" 137 11 ci := zk_l1 ⟨RX4, TX4, 19, _, rfl, in_X4, by decide, (Or.inl q2017), (Or.inl rfl)⟩
theorem fo_q2018 : ∀ ci ∈ [4], zk_fo "LandFolioModel" 140 12 ci := zk_l1 ⟨RX4, TX4, 19, _, rfl, in_X4, by decide, (Or.inl q2018), (Or.inl rfl)⟩
theorem fo_q2020 : ∀ ci ∈ [4], zk_fo "LandFolioModel" 143 14 ci := zk_l1 ⟨RX4, TX4, 19, _, rfl, in_X4, by decide, (Or.inl q2020), (Or.inl rfl)⟩
theorem fo_q2019 : ∀ ci ∈ [4], zk_fo "LandFolioModel" 146 13 ci := zk_l1 ⟨RX4, TX4, 19, _, rfl, in_X4, by decide, (Or.inl q2019), (Or.inl rfl)⟩
theorem fo_q2021 : ∀ ci ∈ [4], zk_fo "LandFolioModel" 163 15 ci := zk_l1 ⟨RX4, TX4, 19, _, rfl, in_X4, by decide, (Or.inl q2021), (Or.inl rfl)⟩
theorem fo_q2013 : ∀ ci ∈ [4], zk_fo "LandFolioModel" 224 6 ci := zk_l1 ⟨RX4, TX4, 19, _, rfl, in_X4, by decide, (Or.inl q2013), (Or.inl rfl)⟩
theorem fo_q2024 : ∀ ci ∈ [4], zk_fo "LandFolioModel" 355 18 ci := zk_l1 ⟨RX4, TX4, 19, _, rfl, in_X4, by decide, (Or.inl q2024), (Or.inl rfl)⟩
theorem fo_q768 : ∀ ci ∈ [14], zk_fo "java/lang/AbstractStringBuilder" 15 0 ci := zk_l1 ⟨RJ8, TJ8, 4, _, rfl, in_J8, by decide, (Or.inl q768), (Or.inl rfl)⟩
theorem fo_q769 : ∀ ci ∈ [14], zk_fo "java/lang/AbstractStringBuilder" 22 1 ci := zk_l1 ⟨RJ8, TJ8, 4, _, rfl, in_J8, by decide, (Or.inl q769), (Or.inl rfl)⟩
theorem fo_q771 : ∀ ci ∈ [14], zk_fo "java/lang/AbstractStringBuilder" 79 3 ci := zk_l1 ⟨RJ8, TJ8, 4, _, rfl, in_J8, by decide, (Or.inl q771), (Or.inl rfl)⟩
theorem fo_q907 : ∀ ci ∈ [15], zk_fo "java/lang/String" 9 0 ci := zk_l1 ⟨RJ9, TJ9, 4, _, rfl, in_J9, by decide, (Or.inl q907), (Or.inl rfl)⟩
theorem fo_q908 : ∀ ci ∈ [15], zk_fo "java/lang/String" 15 1 ci := zk_l1 ⟨RJ9, TJ9, 4, _, rfl, in_J9, by decide, (Or.inl q908), (Or.inl rfl)⟩
theorem fo_q909 : ∀ ci ∈ [15], zk_fo "java/lang/String" 19 2 ci := zk_l1 ⟨RJ9, TJ9, 4, _, rfl, in_J9, by decide, (Or.inl q909), (Or.inl rfl)⟩
theorem fo_q910 : ∀ ci ∈ [15], zk_fo "java/lang/String" 23 3 ci := zk_l1 ⟨RJ9, TJ9, 4, _, rfl, in_J9, by decide, (Or.inl q910), (Or.inl rfl)⟩
theorem fo_q770 : ∀ ci ∈ [14], zk_fo "java/lang/String" 1048 2 ci := zk_l1 ⟨RJ8, TJ8, 4, _, rfl, in_J8, by decide, (Or.inl q770), (Or.inl rfl)⟩
theorem fo_q391 : ∀ ci ∈ [13], zk_fo "java/util/ArrayDeque" 3 0 ci := zk_l1 ⟨RJ6, TJ6, 3, _, rfl, in_J6, by decide, (Or.inl q391), (Or.inl rfl)⟩
theorem fo_q393 : ∀ ci ∈ [13], zk_fo "java/util/ArrayDeque" 20 2 ci := zk_l1 ⟨RJ6, TJ6, 3, _, rfl, in_J6, by decide, (Or.inl q393), (Or.inl rfl)⟩
theorem fo_q392 : ∀ ci ∈ [13], zk_fo "java/util/ArrayDeque" 24 1 ci := zk_l1 ⟨RJ6, TJ6, 3, _, rfl, in_J6, by decide, (Or.inl q392), (Or.inl rfl)⟩
theorem fo_q171 : ∀ ci ∈ [12], zk_fo "java/util/ArrayList" 9 1 ci := zk_l1 ⟨RJ2, TJ2, 3, _, rfl, in_J2, by decide, (Or.inl q171), (Or.inl rfl)⟩
theorem fo_q172 : ∀ ci ∈ [12], zk_fo "java/util/ArrayList" 48 2 ci := zk_l1 ⟨RJ2, TJ2, 3, _, rfl, in_J2, by decide, (Or.inl q172), (Or.inl rfl)⟩
theorem fo_q174 : ∀ ci ∈ [12], zk_fo "java/util/ArrayList" 63 0 ci := zk_l1 ⟨RJ2, TJ2, 3, _, rfl, in_J2, by decide, (Or.inl q174), (Or.inr q175)⟩
theorem fo_q577 : ∀ ci ∈ [16], zk_fo "java/util/BitSet" 7 1 ci := zk_l1 ⟨RJ16, TJ16, 3, _, rfl, in_J16, by decide, (Or.inl q577), (Or.inl rfl)⟩
theorem fo_q576 : ∀ ci ∈ [16], zk_fo "java/util/BitSet" 11 0 ci := zk_l1 ⟨RJ16, TJ16, 3, _, rfl, in_J16, by decide, (Or.inl q576), (Or.inl rfl)⟩
theorem fp_q402 : ∀ ci ∈ [0], zk_fp "LandFolio" 32 0 ci (.object "LandFolio$Folio") false := zk_l1 ⟨RX0, TX0, 7, _, tyX0, rfl, in_X0, by decide, (Or.inl q402), (Or.inl rfl), tyX0_ok, nmX0, by decide +kernel, rfl, fun z => by cases z⟩
theorem fp_q403 : ∀ ci ∈ [0], zk_fp "LandFolio" 39 1 ci (.object "java/util/ArrayDeque") true := zk_l1 ⟨RX0, TX0, 7, _, tyX0, rfl, in_X0, by decide, (Or.inl q403), (Or.inl rfl), tyX0_ok, nmX0, by decide +kernel, rfl, fun _ => rfl⟩
theorem fp_q404 : ∀ ci ∈ [0], zk_fp "LandFolio" 43 2 ci (.array (.object "LandFolio$Folio")) true := zk_l1 ⟨RX0, TX0, 7, _, tyX0, rfl, in_X0, by decide, (Or.inl q404), (Or.inl rfl), tyX0_ok, nmX0, by decide +kernel, rfl, fun _ => rfl⟩
theorem fp_q406 : ∀ ci ∈ [0], zk_fp "LandFolio" 47 3 ci (.array .byte) true := zk_l1 ⟨RX0, TX0, 7, _, tyX0, rfl, in_X0, by decide, (Or.inl q406), (Or.inl rfl), tyX0_ok, nmX0, by decide +kernel, rfl, fun _ => rfl⟩
theorem fp_q409 : ∀ ci ∈ [0], zk_fp "LandFolio" 51 5 ci .int false := zk_l1 ⟨RX0, TX0, 7, _, tyX0, rfl, in_X0, by decide, (Or.inl q409), (Or.inl rfl), tyX0_ok, nmX0, by decide +kernel, rfl, fun z => by cases z⟩
theorem fp_q410 : ∀ ci ∈ [0], zk_fp "LandFolio" 55 6 ci (.array .int) true := zk_l1 ⟨RX0, TX0, 7, _, tyX0, rfl, in_X0, by decide, (Or.inl q410), (Or.inl rfl), tyX0_ok, nmX0, by decide +kernel, rfl, fun _ => rfl⟩
theorem fp_q408 : ∀ ci ∈ [0], zk_fp "LandFolio" 124 4 ci .int false := zk_l1 ⟨RX0, TX0, 7, _, tyX0, rfl, in_X0, by decide, (Or.inl q408), (Or.inl rfl), tyX0_ok, nmX0, by decide +kernel, rfl, fun z => by cases z⟩
theorem fp_q190 : ∀ ci ∈ [1], zk_fp "LandFolio" 256 3 ci .int false := zk_l1 ⟨RX1, TX1, 9, _, tyX1, rfl, in_X1, by decide, (Or.inr ⟨rfl, _, zk_nwm q190 rfl⟩), (Or.inl rfl), tyX1_ok, nmX1, by decide +kernel, rfl, fun z => by cases z⟩
theorem fp_q591 : ∀ ci ∈ [7], zk_fp "LandFolio" 287 5 ci .int false := zk_l1 ⟨RX8, TX8, 6, _, tyX8, rfl, in_X8, by decide, (Or.inr ⟨rfl, _, zk_nwm q591 rfl⟩), (Or.inl rfl), tyX8_ok, nmX8, by decide +kernel, rfl, fun z => by cases z⟩
theorem fp_q598 : ∀ ci ∈ [7, 8], zk_fp "LandFolio" 314 2 ci .int false := zk_l2 ⟨RX8, TX8, 6, _, tyX8, rfl, in_X8, by decide, (Or.inr ⟨rfl, _, zk_nwm q598 rfl⟩), (Or.inl rfl), tyX8_ok, nmX8, by decide +kernel, rfl, fun z => by cases z⟩ ⟨RX9, TX9, 6, _, tyX9, rfl, in_X9, by decide, (Or.inr ⟨rfl, _, zk_nwm q598 rfl⟩), (Or.inl rfl), tyX9_ok, nmX9, by decide +kernel, rfl, fun z => by cases z⟩
theorem fp_q332 : ∀ ci ∈ [2], zk_fp "LandFolio" 318 8 ci .boolean false := zk_l1 ⟨RX2, TX2, 9, _, tyX2, rfl, in_X2, by decide, (Or.inr ⟨rfl, _, zk_nwm q332 rfl⟩), (Or.inl rfl), tyX2_ok, nmX2, by decide +kernel, rfl, fun z => by cases z⟩
theorem fp_q188 : ∀ ci ∈ [1], zk_fp "LandFolio" 325 2 ci .int false := zk_l1 ⟨RX1, TX1, 9, _, tyX1, rfl, in_X1, by decide, (Or.inr ⟨rfl, _, zk_nwm q188 rfl⟩), (Or.inl rfl), tyX1_ok, nmX1, by decide +kernel, rfl, fun z => by cases z⟩
theorem fp_q599 : ∀ ci ∈ [7, 8], zk_fp "LandFolio$Burden" 10 3 ci (.object "java/util/BitSet") true := zk_l2 ⟨RX8, TX8, 6, _, tyX8, rfl, in_X8, by decide, (Or.inl q599), (Or.inl rfl), tyX8_ok, nmX8, by decide +kernel, rfl, fun _ => rfl⟩ ⟨RX9, TX9, 6, _, tyX9, rfl, in_X9, by decide, (Or.inl q599), (Or.inl rfl), tyX9_ok, nmX9, by decide +kernel, rfl, fun _ => rfl⟩
theorem fp_q592 : ∀ ci ∈ [7, 8], zk_fp "LandFolio$Burden" 16 0 ci .int true := zk_l2 ⟨RX8, TX8, 6, _, tyX8, rfl, in_X8, by decide, (Or.inl q592), (Or.inl rfl), tyX8_ok, nmX8, by decide +kernel, rfl, fun _ => rfl⟩ ⟨RX9, TX9, 6, _, tyX9, rfl, in_X9, by decide, (Or.inl q592), (Or.inl rfl), tyX9_ok, nmX9, by decide +kernel, rfl, fun _ => rfl⟩
theorem fp_q593 : ∀ ci ∈ [7, 8], zk_fp "LandFolio$Burden" 20 1 ci .int true := zk_l2 ⟨RX8, TX8, 6, _, tyX8, rfl, in_X8, by decide, (Or.inl q593), (Or.inl rfl), tyX8_ok, nmX8, by decide +kernel, rfl, fun _ => rfl⟩ ⟨RX9, TX9, 6, _, tyX9, rfl, in_X9, by decide, (Or.inl q593), (Or.inl rfl), tyX9_ok, nmX9, by decide +kernel, rfl, fun _ => rfl⟩
theorem fp_q594 : ∀ ci ∈ [7, 8], zk_fp "LandFolio$Burden" 23 2 ci .int false := zk_l2 ⟨RX8, TX8, 6, _, tyX8, rfl, in_X8, by decide, (Or.inl q594), (Or.inl rfl), tyX8_ok, nmX8, by decide +kernel, rfl, fun z => by cases z⟩ ⟨RX9, TX9, 6, _, tyX9, rfl, in_X9, by decide, (Or.inl q594), (Or.inl rfl), tyX9_ok, nmX9, by decide +kernel, rfl, fun z => by cases z⟩
theorem fp_q1634 : ∀ ci ∈ [10], zk_fp "LandFolio$ByRank" 7 0 ci (.object "LandFolio$Folio") true := zk_l1 ⟨RX12, TX12, 2, _, tyX12, rfl, in_X12, by decide, (Or.inl q1634), (Or.inl rfl), tyX12_ok, nmX12, by decide +kernel, rfl, fun _ => rfl⟩
theorem fp_q1635 : ∀ ci ∈ [10], zk_fp "LandFolio$ByRank" 13 1 ci .int true := zk_l1 ⟨RX12, TX12, 2, _, tyX12, rfl, in_X12, by decide, (Or.inl q1635), (Or.inl rfl), tyX12_ok, nmX12, by decide +kernel, rfl, fun _ => rfl⟩
theorem fp_q1659 : ∀ ci ∈ [11], zk_fp "LandFolio$ByRank$1" 1 1 ci (.object "LandFolio$ByRank") true := zk_l1 ⟨RX13, TX13, 2, _, tyX13, rfl, in_X13, by decide, (Or.inl q1659), (Or.inl rfl), tyX13_ok, nmX13, by decide +kernel, rfl, fun _ => rfl⟩
theorem fp_q1658 : ∀ ci ∈ [11], zk_fp "LandFolio$ByRank$1" 19 0 ci (.object "LandFolio$Burden") false := zk_l1 ⟨RX13, TX13, 2, _, tyX13, rfl, in_X13, by decide, (Or.inl q1658), (Or.inl rfl), tyX13_ok, nmX13, by decide +kernel, rfl, fun z => by cases z⟩
theorem fp_q587 : ∀ ci ∈ [7], zk_fp "LandFolio$Debt" 7 4 ci .int true := zk_l1 ⟨RX8, TX8, 6, _, tyX8, rfl, in_X8, by decide, (Or.inl q587), (Or.inl rfl), tyX8_ok, nmX8, by decide +kernel, rfl, fun _ => rfl⟩
theorem fp_q589 : ∀ ci ∈ [7], zk_fp "LandFolio$Debt" 13 5 ci .int false := zk_l1 ⟨RX8, TX8, 6, _, tyX8, rfl, in_X8, by decide, (Or.inl q589), (Or.inl rfl), tyX8_ok, nmX8, by decide +kernel, rfl, fun z => by cases z⟩
theorem fp_q369 : ∀ ci ∈ [3], zk_fp "LandFolio$Deed" 9 0 ci .int true := zk_l1 ⟨RX3, TX3, 3, _, tyX3, rfl, in_X3, by decide, (Or.inl q369), (Or.inl rfl), tyX3_ok, nmX3, by decide +kernel, rfl, fun _ => rfl⟩
theorem fp_q371 : ∀ ci ∈ [3], zk_fp "LandFolio$Deed" 15 1 ci .int true := zk_l1 ⟨RX3, TX3, 3, _, tyX3, rfl, in_X3, by decide, (Or.inl q371), (Or.inl rfl), tyX3_ok, nmX3, by decide +kernel, rfl, fun _ => rfl⟩
theorem fp_q373 : ∀ ci ∈ [3], zk_fp "LandFolio$Deed" 18 2 ci (.array .int) true := zk_l1 ⟨RX3, TX3, 3, _, tyX3, rfl, in_X3, by decide, (Or.inl q373), (Or.inl rfl), tyX3_ok, nmX3, by decide +kernel, rfl, fun _ => rfl⟩
theorem fp_q1336 : ∀ ci ∈ [9], zk_fp "LandFolio$Entry" 7 0 ci .int true := zk_l1 ⟨RX10, TX10, 3, _, tyX10, rfl, in_X10, by decide, (Or.inl q1336), (Or.inl rfl), tyX10_ok, nmX10, by decide +kernel, rfl, fun _ => rfl⟩
theorem fp_q1337 : ∀ ci ∈ [9], zk_fp "LandFolio$Entry" 13 1 ci .int true := zk_l1 ⟨RX10, TX10, 3, _, tyX10, rfl, in_X10, by decide, (Or.inl q1337), (Or.inl rfl), tyX10_ok, nmX10, by decide +kernel, rfl, fun _ => rfl⟩
theorem fp_q1338 : ∀ ci ∈ [9], zk_fp "LandFolio$Entry" 16 2 ci .int true := zk_l1 ⟨RX10, TX10, 3, _, tyX10, rfl, in_X10, by decide, (Or.inl q1338), (Or.inl rfl), tyX10_ok, nmX10, by decide +kernel, rfl, fun _ => rfl⟩
theorem fp_q1089 : ∀ ci ∈ [6], zk_fp "LandFolio$Fault" 7 6 ci .int true := zk_l1 ⟨RX6, TX6, 7, _, tyX6, rfl, in_X6, by decide, (Or.inl q1089), (Or.inl rfl), tyX6_ok, nmX6, by decide +kernel, rfl, fun _ => rfl⟩
theorem fp_q191 : ∀ ci ∈ [1], zk_fp "LandFolio$Folio" 12 4 ci (.object "java/util/ArrayList") true := zk_l1 ⟨RX1, TX1, 9, _, tyX1, rfl, in_X1, by decide, (Or.inl q191), (Or.inl rfl), tyX1_ok, nmX1, by decide +kernel, rfl, fun _ => rfl⟩
theorem fp_q194 : ∀ ci ∈ [1], zk_fp "LandFolio$Folio" 18 5 ci (.object "java/util/ArrayList") true := zk_l1 ⟨RX1, TX1, 9, _, tyX1, rfl, in_X1, by decide, (Or.inl q194), (Or.inl rfl), tyX1_ok, nmX1, by decide +kernel, rfl, fun _ => rfl⟩
theorem fp_q197 : ∀ ci ∈ [1], zk_fp "LandFolio$Folio" 21 6 ci (.object "java/util/ArrayList") true := zk_l1 ⟨RX1, TX1, 9, _, tyX1, rfl, in_X1, by decide, (Or.inl q197), (Or.inl rfl), tyX1_ok, nmX1, by decide +kernel, rfl, fun _ => rfl⟩
theorem fp_q199 : ∀ ci ∈ [1], zk_fp "LandFolio$Folio" 24 7 ci (.object "java/util/ArrayList") true := zk_l1 ⟨RX1, TX1, 9, _, tyX1, rfl, in_X1, by decide, (Or.inl q199), (Or.inl rfl), tyX1_ok, nmX1, by decide +kernel, rfl, fun _ => rfl⟩
theorem fp_q203 : ∀ ci ∈ [1], zk_fp "LandFolio$Folio" 27 8 ci (.object "java/util/ArrayList") true := zk_l1 ⟨RX1, TX1, 9, _, tyX1, rfl, in_X1, by decide, (Or.inl q203), (Or.inl rfl), tyX1_ok, nmX1, by decide +kernel, rfl, fun _ => rfl⟩
theorem fp_q183 : ∀ ci ∈ [1], zk_fp "LandFolio$Folio" 31 0 ci .int false := zk_l1 ⟨RX1, TX1, 9, _, tyX1, rfl, in_X1, by decide, (Or.inl q183), (Or.inl rfl), tyX1_ok, nmX1, by decide +kernel, rfl, fun z => by cases z⟩
theorem fp_q185 : ∀ ci ∈ [1], zk_fp "LandFolio$Folio" 35 1 ci .int false := zk_l1 ⟨RX1, TX1, 9, _, tyX1, rfl, in_X1, by decide, (Or.inl q185), (Or.inl rfl), tyX1_ok, nmX1, by decide +kernel, rfl, fun z => by cases z⟩
theorem fp_q187 : ∀ ci ∈ [1], zk_fp "LandFolio$Folio" 38 2 ci .int false := zk_l1 ⟨RX1, TX1, 9, _, tyX1, rfl, in_X1, by decide, (Or.inl q187), (Or.inl rfl), tyX1_ok, nmX1, by decide +kernel, rfl, fun z => by cases z⟩
theorem fp_q189 : ∀ ci ∈ [1], zk_fp "LandFolio$Folio" 41 3 ci .int false := zk_l1 ⟨RX1, TX1, 9, _, tyX1, rfl, in_X1, by decide, (Or.inl q189), (Or.inl rfl), tyX1_ok, nmX1, by decide +kernel, rfl, fun z => by cases z⟩
theorem fp_q327 : ∀ ci ∈ [2], zk_fp "LandFolio$Folio" 189 7 ci .int false := zk_l1 ⟨RX2, TX2, 9, _, tyX2, rfl, in_X2, by decide, (Or.inr ⟨rfl, _, zk_nwm q327 rfl⟩), (Or.inl rfl), tyX2_ok, nmX2, by decide +kernel, rfl, fun z => by cases z⟩
theorem fp_q326 : ∀ ci ∈ [2], zk_fp "LandFolio$Parcel" 9 7 ci .int false := zk_l1 ⟨RX2, TX2, 9, _, tyX2, rfl, in_X2, by decide, (Or.inl q326), (Or.inl rfl), tyX2_ok, nmX2, by decide +kernel, rfl, fun z => by cases z⟩
theorem fp_q306 : ∀ ci ∈ [2], zk_fp "LandFolio$Parcel" 15 0 ci .int true := zk_l1 ⟨RX2, TX2, 9, _, tyX2, rfl, in_X2, by decide, (Or.inl q306), (Or.inl rfl), tyX2_ok, nmX2, by decide +kernel, rfl, fun _ => rfl⟩
theorem fp_q310 : ∀ ci ∈ [2], zk_fp "LandFolio$Parcel" 18 1 ci .int true := zk_l1 ⟨RX2, TX2, 9, _, tyX2, rfl, in_X2, by decide, (Or.inl q310), (Or.inl rfl), tyX2_ok, nmX2, by decide +kernel, rfl, fun _ => rfl⟩
theorem fp_q313 : ∀ ci ∈ [2], zk_fp "LandFolio$Parcel" 21 2 ci .int true := zk_l1 ⟨RX2, TX2, 9, _, tyX2, rfl, in_X2, by decide, (Or.inl q313), (Or.inl rfl), tyX2_ok, nmX2, by decide +kernel, rfl, fun _ => rfl⟩
theorem fp_q317 : ∀ ci ∈ [2], zk_fp "LandFolio$Parcel" 24 3 ci .int true := zk_l1 ⟨RX2, TX2, 9, _, tyX2, rfl, in_X2, by decide, (Or.inl q317), (Or.inl rfl), tyX2_ok, nmX2, by decide +kernel, rfl, fun _ => rfl⟩
theorem fp_q320 : ∀ ci ∈ [2], zk_fp "LandFolio$Parcel" 27 4 ci .int true := zk_l1 ⟨RX2, TX2, 9, _, tyX2, rfl, in_X2, by decide, (Or.inl q320), (Or.inl rfl), tyX2_ok, nmX2, by decide +kernel, rfl, fun _ => rfl⟩
theorem fp_q322 : ∀ ci ∈ [2], zk_fp "LandFolio$Parcel" 30 5 ci .int true := zk_l1 ⟨RX2, TX2, 9, _, tyX2, rfl, in_X2, by decide, (Or.inl q322), (Or.inl rfl), tyX2_ok, nmX2, by decide +kernel, rfl, fun _ => rfl⟩
theorem fp_q324 : ∀ ci ∈ [2], zk_fp "LandFolio$Parcel" 33 6 ci .int true := zk_l1 ⟨RX2, TX2, 9, _, tyX2, rfl, in_X2, by decide, (Or.inl q324), (Or.inl rfl), tyX2_ok, nmX2, by decide +kernel, rfl, fun _ => rfl⟩
theorem fp_q330 : ∀ ci ∈ [2], zk_fp "LandFolio$Parcel" 39 8 ci .boolean false := zk_l1 ⟨RX2, TX2, 9, _, tyX2, rfl, in_X2, by decide, (Or.inl q330), (Or.inl rfl), tyX2_ok, nmX2, by decide +kernel, rfl, fun z => by cases z⟩
theorem fp_q630 : ∀ ci ∈ [8], zk_fp "LandFolio$Path" 7 4 ci .int true := zk_l1 ⟨RX9, TX9, 6, _, tyX9, rfl, in_X9, by decide, (Or.inl q630), (Or.inl rfl), tyX9_ok, nmX9, by decide +kernel, rfl, fun _ => rfl⟩
theorem fp_q633 : ∀ ci ∈ [8], zk_fp "LandFolio$Path" 13 5 ci .int true := zk_l1 ⟨RX9, TX9, 6, _, tyX9, rfl, in_X9, by decide, (Or.inl q633), (Or.inl rfl), tyX9_ok, nmX9, by decide +kernel, rfl, fun _ => rfl⟩
theorem fp_q1012 : ∀ ci ∈ [5], zk_fp "LandFolio$Reader" 3 6 ci (.object "LandFolio") true := zk_l1 ⟨RX5, TX5, 7, _, tyX5, rfl, in_X5, by decide, (Or.inl q1012), (Or.inl rfl), tyX5_ok, nmX5, by decide +kernel, rfl, fun _ => rfl⟩
theorem fp_q1005 : ∀ ci ∈ [5], zk_fp "LandFolio$Reader" 18 0 ci (.object "LandFolio$Folio") true := zk_l1 ⟨RX5, TX5, 7, _, tyX5, rfl, in_X5, by decide, (Or.inl q1005), (Or.inl rfl), tyX5_ok, nmX5, by decide +kernel, rfl, fun _ => rfl⟩
theorem fp_q1010 : ∀ ci ∈ [5], zk_fp "LandFolio$Reader" 24 4 ci (.object "java/lang/String") false := zk_l1 ⟨RX5, TX5, 7, _, tyX5, rfl, in_X5, by decide, (Or.inl q1010), (Or.inl rfl), tyX5_ok, nmX5, by decide +kernel, rfl, fun z => by cases z⟩
theorem fp_q1007 : ∀ ci ∈ [5], zk_fp "LandFolio$Reader" 31 1 ci .int false := zk_l1 ⟨RX5, TX5, 7, _, tyX5, rfl, in_X5, by decide, (Or.inl q1007), (Or.inl rfl), tyX5_ok, nmX5, by decide +kernel, rfl, fun z => by cases z⟩
theorem fp_q1008 : ∀ ci ∈ [5], zk_fp "LandFolio$Reader" 50 2 ci .int false := zk_l1 ⟨RX5, TX5, 7, _, tyX5, rfl, in_X5, by decide, (Or.inl q1008), (Or.inl rfl), tyX5_ok, nmX5, by decide +kernel, rfl, fun z => by cases z⟩
theorem fp_q1009 : ∀ ci ∈ [5], zk_fp "LandFolio$Reader" 53 3 ci .int false := zk_l1 ⟨RX5, TX5, 7, _, tyX5, rfl, in_X5, by decide, (Or.inl q1009), (Or.inl rfl), tyX5_ok, nmX5, by decide +kernel, rfl, fun z => by cases z⟩
theorem fp_q1011 : ∀ ci ∈ [5], zk_fp "LandFolio$Reader" 81 5 ci .int false := zk_l1 ⟨RX5, TX5, 7, _, tyX5, rfl, in_X5, by decide, (Or.inl q1011), (Or.inl rfl), tyX5_ok, nmX5, by decide +kernel, rfl, fun z => by cases z⟩
theorem fp_q2007 : ∀ ci ∈ [4], zk_fp "LandFolioModel" 7 0 ci (.array .int) true := zk_l1 ⟨RX4, TX4, 19, _, tyX4, rfl, in_X4, by decide, (Or.inl q2007), (Or.inl rfl), tyX4_ok, nmX4, by decide +kernel, rfl, fun _ => rfl⟩
theorem fp_q2008 : ∀ ci ∈ [4], zk_fp "LandFolioModel" 13 1 ci (.array .int) true := zk_l1 ⟨RX4, TX4, 19, _, tyX4, rfl, in_X4, by decide, (Or.inl q2008), (Or.inl rfl), tyX4_ok, nmX4, by decide +kernel, rfl, fun _ => rfl⟩
theorem fp_q2009 : ∀ ci ∈ [4], zk_fp "LandFolioModel" 16 2 ci (.array .int) true := zk_l1 ⟨RX4, TX4, 19, _, tyX4, rfl, in_X4, by decide, (Or.inl q2009), (Or.inl rfl), tyX4_ok, nmX4, by decide +kernel, rfl, fun _ => rfl⟩
theorem fp_q2010 : ∀ ci ∈ [4], zk_fp "LandFolioModel" 19 3 ci (.array .int) true := zk_l1 ⟨RX4, TX4, 19, _, tyX4, rfl, in_X4, by decide, (Or.inl q2010), (Or.inl rfl), tyX4_ok, nmX4, by decide +kernel, rfl, fun _ => rfl⟩
theorem fp_q2011 : ∀ ci ∈ [4], zk_fp "LandFolioModel" 22 4 ci (.array .int) true := zk_l1 ⟨RX4, TX4, 19, _, tyX4, rfl, in_X4, by decide, (Or.inl q2011), (Or.inl rfl), tyX4_ok, nmX4, by decide +kernel, rfl, fun _ => rfl⟩
theorem fp_q2012 : ∀ ci ∈ [4], zk_fp "LandFolioModel" 25 5 ci (.array .boolean) true := zk_l1 ⟨RX4, TX4, 19, _, tyX4, rfl, in_X4, by decide, (Or.inl q2012), (Or.inl rfl), tyX4_ok, nmX4, by decide +kernel, rfl, fun _ => rfl⟩
theorem fp_q2014 : ∀ ci ∈ [4], zk_fp "LandFolioModel" 29 7 ci (.array .int) true := zk_l1 ⟨RX4, TX4, 19, _, tyX4, rfl, in_X4, by decide, (Or.inl q2014), (Or.inl rfl), tyX4_ok, nmX4, by decide +kernel, rfl, fun _ => rfl⟩
theorem fp_q2016 : ∀ ci ∈ [4], zk_fp "LandFolioModel" 32 9 ci .int false := zk_l1 ⟨RX4, TX4, 19, _, tyX4, rfl, in_X4, by decide, (Or.inl q2016), (Or.inl rfl), tyX4_ok, nmX4, by decide +kernel, rfl, fun z => by cases z⟩
theorem fp_q2022 : ∀ ci ∈ [4], zk_fp "LandFolioModel" 36 16 ci (.array .int) true := zk_l1 ⟨RX4, TX4, 19, _, tyX4, rfl, in_X4, by decide, (Or.inl q2022), (Or.inl rfl), tyX4_ok, nmX4, by decide +kernel, rfl, fun _ => rfl⟩
theorem fp_q2023 : ∀ ci ∈ [4], zk_fp "LandFolioModel" 39 17 ci (.array .int) true := zk_l1 ⟨RX4, TX4, 19, _, tyX4, rfl, in_X4, by decide, (Or.inl q2023), (Or.inl rfl), tyX4_ok, nmX4, by decide +kernel, rfl, fun _ => rfl⟩
theorem fp_q2015 : ∀ ci ∈ [4], zk_fp "LandFolioModel" 134 8 ci .int false := zk_l1 ⟨RX4, TX4, 19, _, tyX4, rfl, in_X4, by decide, (Or.inl q2015), (Or.inl rfl), tyX4_ok, nmX4, by decide +kernel, rfl, fun z => by cases z⟩
theorem fp_q2017 : ∀ ci ∈ [4], zk_fp "LandFolioModel" 137 11 ci .int false := zk_l1 ⟨RX4, TX4, 19, _, tyX4, rfl, in_X4, by decide, (Or.inl q2017), (Or.inl rfl), tyX4_ok, nmX4, by decide +kernel, rfl, fun z => by cases z⟩
theorem fp_q2018 : ∀ ci ∈ [4], zk_fp "LandFolioModel" 140 12 ci .int false := zk_l1 ⟨RX4, TX4, 19, _, tyX4, rfl, in_X4, by decide, (Or.inl q2018), (Or.inl rfl), tyX4_ok, nmX4, by decide +kernel, rfl, fun z => by cases z⟩
theorem fp_q2020 : ∀ ci ∈ [4], zk_fp "LandFolioModel" 143 14 ci .int false := zk_l1 ⟨RX4, TX4, 19, _, tyX4, rfl, in_X4, by decide, (Or.inl q2020), (Or.inl rfl), tyX4_ok, nmX4, by decide +kernel, rfl, fun z => by cases z⟩
theorem fp_q2019 : ∀ ci ∈ [4], zk_fp "LandFolioModel" 146 13 ci .int false := zk_l1 ⟨RX4, TX4, 19, _, tyX4, rfl, in_X4, by decide, (Or.inl q2019), (Or.inl rfl), tyX4_ok, nmX4, by decide +kernel, rfl, fun z => by cases z⟩
theorem fp_q2021 : ∀ ci ∈ [4], zk_fp "LandFolioModel" 163 15 ci .boolean false := zk_l1 ⟨RX4, TX4, 19, _, tyX4, rfl, in_X4, by decide, (Or.inl q2021), (Or.inl rfl), tyX4_ok, nmX4, by decide +kernel, rfl, fun z => by cases z⟩
theorem fp_q2013 : ∀ ci ∈ [4], zk_fp "LandFolioModel" 224 6 ci .int false := zk_l1 ⟨RX4, TX4, 19, _, tyX4, rfl, in_X4, by decide, (Or.inl q2013), (Or.inl rfl), tyX4_ok, nmX4, by decide +kernel, rfl, fun z => by cases z⟩
theorem fp_q2024 : ∀ ci ∈ [4], zk_fp "LandFolioModel" 355 18 ci .int false := zk_l1 ⟨RX4, TX4, 19, _, tyX4, rfl, in_X4, by decide, (Or.inl q2024), (Or.inl rfl), tyX4_ok, nmX4, by decide +kernel, rfl, fun z => by cases z⟩
theorem fp_q768 : ∀ ci ∈ [14], zk_fp "java/lang/AbstractStringBuilder" 15 0 ci (.array .byte) false := zk_l1 ⟨RJ8, TJ8, 4, _, tyJ8, rfl, in_J8, by decide, (Or.inl q768), (Or.inl rfl), tyJ8_ok, nmJ8, by decide +kernel, rfl, fun z => by cases z⟩
theorem fp_q769 : ∀ ci ∈ [14], zk_fp "java/lang/AbstractStringBuilder" 22 1 ci .byte false := zk_l1 ⟨RJ8, TJ8, 4, _, tyJ8, rfl, in_J8, by decide, (Or.inl q769), (Or.inl rfl), tyJ8_ok, nmJ8, by decide +kernel, rfl, fun z => by cases z⟩
theorem fp_q771 : ∀ ci ∈ [14], zk_fp "java/lang/AbstractStringBuilder" 79 3 ci .int false := zk_l1 ⟨RJ8, TJ8, 4, _, tyJ8, rfl, in_J8, by decide, (Or.inl q771), (Or.inl rfl), tyJ8_ok, nmJ8, by decide +kernel, rfl, fun z => by cases z⟩
theorem fp_q907 : ∀ ci ∈ [15], zk_fp "java/lang/String" 9 0 ci (.array .byte) true := zk_l1 ⟨RJ9, TJ9, 4, _, tyJ9, rfl, in_J9, by decide, (Or.inl q907), (Or.inl rfl), tyJ9_ok, nmJ9, by decide +kernel, rfl, fun _ => rfl⟩
theorem fp_q908 : ∀ ci ∈ [15], zk_fp "java/lang/String" 15 1 ci .byte true := zk_l1 ⟨RJ9, TJ9, 4, _, tyJ9, rfl, in_J9, by decide, (Or.inl q908), (Or.inl rfl), tyJ9_ok, nmJ9, by decide +kernel, rfl, fun _ => rfl⟩
theorem fp_q909 : ∀ ci ∈ [15], zk_fp "java/lang/String" 19 2 ci .int false := zk_l1 ⟨RJ9, TJ9, 4, _, tyJ9, rfl, in_J9, by decide, (Or.inl q909), (Or.inl rfl), tyJ9_ok, nmJ9, by decide +kernel, rfl, fun z => by cases z⟩
theorem fp_q910 : ∀ ci ∈ [15], zk_fp "java/lang/String" 23 3 ci .boolean false := zk_l1 ⟨RJ9, TJ9, 4, _, tyJ9, rfl, in_J9, by decide, (Or.inl q910), (Or.inl rfl), tyJ9_ok, nmJ9, by decide +kernel, rfl, fun z => by cases z⟩
theorem fp_q1093 : ∀ ci ∈ [6], zk_fp "java/lang/Throwable" 7 0 ci (.object "java/lang/Throwable") false := zk_l1 ⟨RX6, TX6, 7, _, tyX6, rfl, in_X6, by decide, (Or.inl q1093), (Or.inl rfl), tyX6_ok, nmX6, by decide +kernel, rfl, fun z => by cases z⟩
theorem fp_q1094 : ∀ ci ∈ [6], zk_fp "java/lang/Throwable" 17 1 ci (.array (.object "java/lang/StackTraceElement")) false := zk_l1 ⟨RX6, TX6, 7, _, tyX6, rfl, in_X6, by decide, (Or.inl q1094), (Or.inl rfl), tyX6_ok, nmX6, by decide +kernel, rfl, fun z => by cases z⟩
theorem fp_q1095 : ∀ ci ∈ [6], zk_fp "java/lang/Throwable" 24 2 ci (.object "java/util/List") false := zk_l1 ⟨RX6, TX6, 7, _, tyX6, rfl, in_X6, by decide, (Or.inl q1095), (Or.inl rfl), tyX6_ok, nmX6, by decide +kernel, rfl, fun z => by cases z⟩
theorem fp_q1092 : ∀ ci ∈ [6], zk_fp "java/lang/Throwable" 31 3 ci (.object "java/lang/String") false := zk_l1 ⟨RX6, TX6, 7, _, tyX6, rfl, in_X6, by decide, (Or.inl q1092), (Or.inl rfl), tyX6_ok, nmX6, by decide +kernel, rfl, fun z => by cases z⟩
theorem fp_q173 : ∀ ci ∈ [12], zk_fp "java/util/AbstractList" 7 0 ci .int false := zk_l1 ⟨RJ2, TJ2, 3, _, tyJ2, rfl, in_J2, by decide, (Or.inl q173), (Or.inl rfl), tyJ2_ok, nmJ2, by decide +kernel, rfl, fun z => by cases z⟩
theorem fp_q391 : ∀ ci ∈ [13], zk_fp "java/util/ArrayDeque" 3 0 ci (.array (.object "java/lang/Object")) false := zk_l1 ⟨RJ6, TJ6, 3, _, tyJ6, rfl, in_J6, by decide, (Or.inl q391), (Or.inl rfl), tyJ6_ok, nmJ6, by decide +kernel, rfl, fun z => by cases z⟩
theorem fp_q393 : ∀ ci ∈ [13], zk_fp "java/util/ArrayDeque" 20 2 ci .int false := zk_l1 ⟨RJ6, TJ6, 3, _, tyJ6, rfl, in_J6, by decide, (Or.inl q393), (Or.inl rfl), tyJ6_ok, nmJ6, by decide +kernel, rfl, fun z => by cases z⟩
theorem fp_q392 : ∀ ci ∈ [13], zk_fp "java/util/ArrayDeque" 24 1 ci .int false := zk_l1 ⟨RJ6, TJ6, 3, _, tyJ6, rfl, in_J6, by decide, (Or.inl q392), (Or.inl rfl), tyJ6_ok, nmJ6, by decide +kernel, rfl, fun z => by cases z⟩
theorem fp_q171 : ∀ ci ∈ [12], zk_fp "java/util/ArrayList" 9 1 ci (.array (.object "java/lang/Object")) false := zk_l1 ⟨RJ2, TJ2, 3, _, tyJ2, rfl, in_J2, by decide, (Or.inl q171), (Or.inl rfl), tyJ2_ok, nmJ2, by decide +kernel, rfl, fun z => by cases z⟩
theorem fp_q172 : ∀ ci ∈ [12], zk_fp "java/util/ArrayList" 48 2 ci .int false := zk_l1 ⟨RJ2, TJ2, 3, _, tyJ2, rfl, in_J2, by decide, (Or.inl q172), (Or.inl rfl), tyJ2_ok, nmJ2, by decide +kernel, rfl, fun z => by cases z⟩
theorem fp_q174 : ∀ ci ∈ [12], zk_fp "java/util/ArrayList" 63 0 ci .int false := zk_l1 ⟨RJ2, TJ2, 3, _, tyJ2, rfl, in_J2, by decide, (Or.inl q174), (Or.inr q175), tyJ2_ok, nmJ2, by decide +kernel, rfl, fun z => by cases z⟩
theorem fp_q577 : ∀ ci ∈ [16], zk_fp "java/util/BitSet" 7 1 ci .int false := zk_l1 ⟨RJ16, TJ16, 3, _, tyJ16, rfl, in_J16, by decide, (Or.inl q577), (Or.inl rfl), tyJ16_ok, nmJ16, by decide +kernel, rfl, fun z => by cases z⟩
theorem fp_q576 : ∀ ci ∈ [16], zk_fp "java/util/BitSet" 11 0 ci (.array .long) false := zk_l1 ⟨RJ16, TJ16, 3, _, tyJ16, rfl, in_J16, by decide, (Or.inl q576), (Or.inl rfl), tyJ16_ok, nmJ16, by decide +kernel, rfl, fun z => by cases z⟩
theorem fp_q578 : ∀ ci ∈ [16], zk_fp "java/util/BitSet" 24 2 ci .boolean false := zk_l1 ⟨RJ16, TJ16, 3, _, tyJ16, rfl, in_J16, by decide, (Or.inl q578), (Or.inl rfl), tyJ16_ok, nmJ16, by decide +kernel, rfl, fun z => by cases z⟩
