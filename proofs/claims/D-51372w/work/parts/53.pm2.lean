/-! THE PURE PART 4: the reference's object and its queries (printed by gen/mkpm.py) -/
def sp_mo (A : Nat → Nat) (I : Nat → Int32) : List Value := [va_rf (some (A 0)), va_rf (some (A 1)), va_rf (some (A 2)), va_rf (some (A 3)), va_rf (some (A 4)), va_rf (some (A 5)), .int (I 6), va_rf (some (A 7)), .int (I 8), .int (I 9), .int (I 10), .int (I 11), .int (I 12), .int (I 13), .int (I 14), .int (I 15), va_rf (some (A 16)), va_rf (some (A 17)), .int (I 18)]
section PMO
variable {P : zk_H} {m : Nat} {A : Nat → Nat} {I : Nat → Int32}
theorem mo_o (h : P m = some (true, .inr (4, sp_mo A I))) {K : Nat → Prop} : zo P (some m) [4] K = K m := ro_e h (by decide)
theorem mo_0 (h : P m = some (true, .inr (4, sp_mo A I))) {K : Option Nat → Prop} : zf_r P (some m) [4] 0 K = K (some (A 0)) := rf_r h (by decide) rfl
theorem mo_1 (h : P m = some (true, .inr (4, sp_mo A I))) {K : Option Nat → Prop} : zf_r P (some m) [4] 1 K = K (some (A 1)) := rf_r h (by decide) rfl
theorem mo_2 (h : P m = some (true, .inr (4, sp_mo A I))) {K : Option Nat → Prop} : zf_r P (some m) [4] 2 K = K (some (A 2)) := rf_r h (by decide) rfl
theorem mo_3 (h : P m = some (true, .inr (4, sp_mo A I))) {K : Option Nat → Prop} : zf_r P (some m) [4] 3 K = K (some (A 3)) := rf_r h (by decide) rfl
theorem mo_4 (h : P m = some (true, .inr (4, sp_mo A I))) {K : Option Nat → Prop} : zf_r P (some m) [4] 4 K = K (some (A 4)) := rf_r h (by decide) rfl
theorem mo_5 (h : P m = some (true, .inr (4, sp_mo A I))) {K : Option Nat → Prop} : zf_r P (some m) [4] 5 K = K (some (A 5)) := rf_r h (by decide) rfl
theorem mo_7 (h : P m = some (true, .inr (4, sp_mo A I))) {K : Option Nat → Prop} : zf_r P (some m) [4] 7 K = K (some (A 7)) := rf_r h (by decide) rfl
theorem mo_16 (h : P m = some (true, .inr (4, sp_mo A I))) {K : Option Nat → Prop} : zf_r P (some m) [4] 16 K = K (some (A 16)) := rf_r h (by decide) rfl
theorem mo_17 (h : P m = some (true, .inr (4, sp_mo A I))) {K : Option Nat → Prop} : zf_r P (some m) [4] 17 K = K (some (A 17)) := rf_r h (by decide) rfl
theorem mo_6 (h : P m = some (true, .inr (4, sp_mo A I))) {K : Int32 → Prop} : zf_i P (some m) [4] 6 K = K (I 6) := rf_i h (by decide) rfl
theorem mw_6 (h : P m = some (true, .inr (4, sp_mo A I))) {x : Int32} {K : zk_H → Prop} : zp_v P (some m) [4] 6 (.int x) K = K (zk_u P m (.inr (4, sp_mo A (upd I 6 x)))) := rp_v h (by decide) (Nat.le_of_ble_eq_true rfl)
theorem mo_8 (h : P m = some (true, .inr (4, sp_mo A I))) {K : Int32 → Prop} : zf_i P (some m) [4] 8 K = K (I 8) := rf_i h (by decide) rfl
theorem mw_8 (h : P m = some (true, .inr (4, sp_mo A I))) {x : Int32} {K : zk_H → Prop} : zp_v P (some m) [4] 8 (.int x) K = K (zk_u P m (.inr (4, sp_mo A (upd I 8 x)))) := rp_v h (by decide) (Nat.le_of_ble_eq_true rfl)
theorem mo_9 (h : P m = some (true, .inr (4, sp_mo A I))) {K : Int32 → Prop} : zf_i P (some m) [4] 9 K = K (I 9) := rf_i h (by decide) rfl
theorem mw_9 (h : P m = some (true, .inr (4, sp_mo A I))) {x : Int32} {K : zk_H → Prop} : zp_v P (some m) [4] 9 (.int x) K = K (zk_u P m (.inr (4, sp_mo A (upd I 9 x)))) := rp_v h (by decide) (Nat.le_of_ble_eq_true rfl)
theorem mo_10 (h : P m = some (true, .inr (4, sp_mo A I))) {K : Int32 → Prop} : zf_i P (some m) [4] 10 K = K (I 10) := rf_i h (by decide) rfl
theorem mw_10 (h : P m = some (true, .inr (4, sp_mo A I))) {x : Int32} {K : zk_H → Prop} : zp_v P (some m) [4] 10 (.int x) K = K (zk_u P m (.inr (4, sp_mo A (upd I 10 x)))) := rp_v h (by decide) (Nat.le_of_ble_eq_true rfl)
theorem mo_11 (h : P m = some (true, .inr (4, sp_mo A I))) {K : Int32 → Prop} : zf_i P (some m) [4] 11 K = K (I 11) := rf_i h (by decide) rfl
theorem mw_11 (h : P m = some (true, .inr (4, sp_mo A I))) {x : Int32} {K : zk_H → Prop} : zp_v P (some m) [4] 11 (.int x) K = K (zk_u P m (.inr (4, sp_mo A (upd I 11 x)))) := rp_v h (by decide) (Nat.le_of_ble_eq_true rfl)
theorem mo_12 (h : P m = some (true, .inr (4, sp_mo A I))) {K : Int32 → Prop} : zf_i P (some m) [4] 12 K = K (I 12) := rf_i h (by decide) rfl
theorem mw_12 (h : P m = some (true, .inr (4, sp_mo A I))) {x : Int32} {K : zk_H → Prop} : zp_v P (some m) [4] 12 (.int x) K = K (zk_u P m (.inr (4, sp_mo A (upd I 12 x)))) := rp_v h (by decide) (Nat.le_of_ble_eq_true rfl)
theorem mo_13 (h : P m = some (true, .inr (4, sp_mo A I))) {K : Int32 → Prop} : zf_i P (some m) [4] 13 K = K (I 13) := rf_i h (by decide) rfl
theorem mw_13 (h : P m = some (true, .inr (4, sp_mo A I))) {x : Int32} {K : zk_H → Prop} : zp_v P (some m) [4] 13 (.int x) K = K (zk_u P m (.inr (4, sp_mo A (upd I 13 x)))) := rp_v h (by decide) (Nat.le_of_ble_eq_true rfl)
theorem mo_14 (h : P m = some (true, .inr (4, sp_mo A I))) {K : Int32 → Prop} : zf_i P (some m) [4] 14 K = K (I 14) := rf_i h (by decide) rfl
theorem mw_14 (h : P m = some (true, .inr (4, sp_mo A I))) {x : Int32} {K : zk_H → Prop} : zp_v P (some m) [4] 14 (.int x) K = K (zk_u P m (.inr (4, sp_mo A (upd I 14 x)))) := rp_v h (by decide) (Nat.le_of_ble_eq_true rfl)
theorem mo_15 (h : P m = some (true, .inr (4, sp_mo A I))) {K : Int32 → Prop} : zf_i P (some m) [4] 15 K = K (I 15) := rf_i h (by decide) rfl
theorem mw_15 (h : P m = some (true, .inr (4, sp_mo A I))) {x : Int32} {K : zk_H → Prop} : zp_v P (some m) [4] 15 (.int x) K = K (zk_u P m (.inr (4, sp_mo A (upd I 15 x)))) := rp_v h (by decide) (Nat.le_of_ble_eq_true rfl)
theorem mo_18 (h : P m = some (true, .inr (4, sp_mo A I))) {K : Int32 → Prop} : zf_i P (some m) [4] 18 K = K (I 18) := rf_i h (by decide) rfl
theorem mw_18 (h : P m = some (true, .inr (4, sp_mo A I))) {x : Int32} {K : zk_H → Prop} : zp_v P (some m) [4] 18 (.int x) K = K (zk_u P m (.inr (4, sp_mo A (upd I 18 x)))) := rp_v h (by decide) (Nat.le_of_ble_eq_true rfl)
end PMO
def sp_liveN (r : sR) : Int32 := sp_s (fun p => if sp_lv r p then 1 else 0) (nP r)
def sp_barN (r : sR) : Int32 := sp_s (fun p => if sp_lv r p ∧ sp_p r p 7 = 1 then 1 else 0) (nP r)
def sp_openN (r : sR) : Int32 := sp_s (fun b => if sp_end r b then 0 else 1) (nB r)
def sp_amt (r : sR) (o : Int32) : Int32 := sp_s (fun b => if ¬ sp_path r b ∧ (o < 0 ∨ sp_b r b 1 = o) then sp_b r b 2 else 0) (nB r)
def sp_nbrs (r : sR) (p : Nat) : Int32 := sp_s (fun q => if sp_nbr r p q then 1 else 0) (nP r)
def sp_pairs (r : sR) : Int32 := sp_s (fun p => if sp_lv r p then sp_nbrs r p else 0) (nP r)
def sp_burs (r : sR) (p : Nat) : Int32 := sp_s (fun b => if sp_on r b p then 1 else 0) (nB r)
def sp_shrs (r : sR) (p : Nat) : Int32 := sp_s (fun q => if sp_share r p q ≤ 0 then 0 else 1) (nO r)
section PM2
variable {P : zk_H} {m : Nat} {A : Nat → Nat} {I : Nat → Int32} {r : sR} {post : Int32 → Prop}
theorem pm_liveN (hm : P m = some (true, .inr (4, sp_mo A I))) (h : P (A 0) = some (true, .inl (.int, 1175, .inl r))) (hc : sp_C r)  : wp_X4_liveMany post m  P = post (sp_liveN r) := by
  have hc' := hc
  obtain ⟨c4, c5, c6, c7, -, b4, b5, b6, b7, -⟩ := hc
  unfold wp_X4_liveMany
  refine (ql2 (wb_X4_liveMany_4 post (some m)  P) (wl_X4_liveMany_4 post (some m)  P) (fun _ _ => rfl) (fun _ _ _ => rfl) (nP r) (sp_s (fun p => if sp_lv r p then 1 else 0)) nI (fun _ => post (sp_liveN r)) (fun _ => False) (fun _ => False) ?_ ?_ ?_)
  · intro k hk K
    simp (disch := omega) only [wb_X4_liveMany_4, wj_X4_liveMany_28, mo_o hm, mo_0 hm, mo_1 hm, mo_2 hm, mo_3 hm, mo_4 hm, mo_5 hm, mo_7 hm, mo_16 hm, mo_17 hm, mo_6 hm, mo_8 hm, mo_9 hm, mo_10 hm, mo_11 hm, mo_12 hm, mo_13 hm, mo_14 hm, mo_15 hm, mo_18 hm, rd_i h, rl0 h, rl1 h, rl2 h, rl3 h, rl4 h, rl5 h, rl6 h, rl7 h, rl1054 h, ix_p, ix_d, ix_b, ia0, ia1, ia2, ia3, ia4, ia5, ia6, ia7, ia8, ia9, ia10, ia11, ia12, zt_k, Nat.add_zero, c5, sp_nn, pm_isLive h, zi_b0, zi_f not_false, sp_s, wp_X4_burdenAt, wp_X4_partAt]
    simp only [zi_if, sp_p, sp_d, sp_b, sp_e, sp_lv, sp_has, sp_at, sp_nbr, sp_obl, sp_path, sp_end, sp_hp, Nat.add_zero]
    grind [Int32.add_zero]
  · exact fun k _ => (zi_f not_false).symm
  · intro K
    simp (disch := omega) only [wb_X4_liveMany_4, mo_o hm, mo_0 hm, mo_1 hm, mo_2 hm, mo_3 hm, mo_4 hm, mo_5 hm, mo_7 hm, mo_16 hm, mo_17 hm, mo_6 hm, mo_8 hm, mo_9 hm, mo_10 hm, mo_11 hm, mo_12 hm, mo_13 hm, mo_14 hm, mo_15 hm, mo_18 hm, rd_i h, rl0 h, rl1 h, rl2 h, rl3 h, rl4 h, rl5 h, rl6 h, rl7 h, rl1054 h, ix_p, ix_d, ix_b, ia0, ia1, ia2, ia3, ia4, ia5, ia6, ia7, ia8, ia9, ia10, ia11, ia12, zt_k, Nat.add_zero, c5, sp_nk, sp_liveN]
theorem pm_barN (hm : P m = some (true, .inr (4, sp_mo A I))) (h : P (A 0) = some (true, .inl (.int, 1175, .inl r))) (hc : sp_C r)  : wp_X4_barredMany post m  P = post (sp_barN r) := by
  have hc' := hc
  obtain ⟨c4, c5, c6, c7, -, b4, b5, b6, b7, -⟩ := hc
  unfold wp_X4_barredMany
  refine (ql2 (wb_X4_barredMany_4 post (some m)  P) (wl_X4_barredMany_4 post (some m)  P) (fun _ _ => rfl) (fun _ _ _ => rfl) (nP r) (sp_s (fun p => if sp_lv r p ∧ sp_p r p 7 = 1 then 1 else 0)) nI (fun _ => post (sp_barN r)) (fun _ => False) (fun _ => False) ?_ ?_ ?_)
  · intro k hk K
    simp (disch := omega) only [wb_X4_barredMany_4, wj_X4_barredMany_39, mo_o hm, mo_0 hm, mo_1 hm, mo_2 hm, mo_3 hm, mo_4 hm, mo_5 hm, mo_7 hm, mo_16 hm, mo_17 hm, mo_6 hm, mo_8 hm, mo_9 hm, mo_10 hm, mo_11 hm, mo_12 hm, mo_13 hm, mo_14 hm, mo_15 hm, mo_18 hm, rd_i h, rl0 h, rl1 h, rl2 h, rl3 h, rl4 h, rl5 h, rl6 h, rl7 h, rl1054 h, ix_p, ix_d, ix_b, ia0, ia1, ia2, ia3, ia4, ia5, ia6, ia7, ia8, ia9, ia10, ia11, ia12, zt_k, Nat.add_zero, c5, sp_nn, pm_isLive h, pm_isBarred h, zi_b0, zi_f not_false, sp_s, wp_X4_burdenAt, wp_X4_partAt]
    simp only [zi_if, sp_p, sp_d, sp_b, sp_e, sp_lv, sp_has, sp_at, sp_nbr, sp_obl, sp_path, sp_end, sp_hp, Nat.add_zero]
    grind [Int32.add_zero]
  · exact fun k _ => (zi_f not_false).symm
  · intro K
    simp (disch := omega) only [wb_X4_barredMany_4, mo_o hm, mo_0 hm, mo_1 hm, mo_2 hm, mo_3 hm, mo_4 hm, mo_5 hm, mo_7 hm, mo_16 hm, mo_17 hm, mo_6 hm, mo_8 hm, mo_9 hm, mo_10 hm, mo_11 hm, mo_12 hm, mo_13 hm, mo_14 hm, mo_15 hm, mo_18 hm, rd_i h, rl0 h, rl1 h, rl2 h, rl3 h, rl4 h, rl5 h, rl6 h, rl7 h, rl1054 h, ix_p, ix_d, ix_b, ia0, ia1, ia2, ia3, ia4, ia5, ia6, ia7, ia8, ia9, ia10, ia11, ia12, zt_k, Nat.add_zero, c5, sp_nk, sp_barN]
theorem pm_openN (hm : P m = some (true, .inr (4, sp_mo A I))) (h : P (A 0) = some (true, .inl (.int, 1175, .inl r))) (hc : sp_C r)  : wp_X4_openBurdens post m  P = post (sp_openN r) := by
  have hc' := hc
  obtain ⟨c4, c5, c6, c7, -, b4, b5, b6, b7, -⟩ := hc
  unfold wp_X4_openBurdens
  refine (ql2 (wb_X4_openBurdens_4 post (some m)  P) (wl_X4_openBurdens_4 post (some m)  P) (fun _ _ => rfl) (fun _ _ _ => rfl) (nB r) (sp_s (fun b => if sp_end r b then 0 else 1)) nI (fun _ => post (sp_openN r)) (fun _ => False) (fun _ => False) ?_ ?_ ?_)
  · intro k hk K
    simp (disch := omega) only [wb_X4_openBurdens_4, wj_X4_openBurdens_29, mo_o hm, mo_0 hm, mo_1 hm, mo_2 hm, mo_3 hm, mo_4 hm, mo_5 hm, mo_7 hm, mo_16 hm, mo_17 hm, mo_6 hm, mo_8 hm, mo_9 hm, mo_10 hm, mo_11 hm, mo_12 hm, mo_13 hm, mo_14 hm, mo_15 hm, mo_18 hm, rd_i h, rl0 h, rl1 h, rl2 h, rl3 h, rl4 h, rl5 h, rl6 h, rl7 h, rl1054 h, ix_p, ix_d, ix_b, ia0, ia1, ia2, ia3, ia4, ia5, ia6, ia7, ia8, ia9, ia10, ia11, ia12, zt_k, Nat.add_zero, c7, sp_nn, pm_end h, zi_b0, zi_f not_false, sp_s, wp_X4_burdenAt, wp_X4_partAt]
    simp only [zi_if, sp_p, sp_d, sp_b, sp_e, sp_lv, sp_has, sp_at, sp_nbr, sp_obl, sp_path, sp_end, sp_hp, Nat.add_zero]
    grind [Int32.add_zero]
  · exact fun k _ => (zi_f not_false).symm
  · intro K
    simp (disch := omega) only [wb_X4_openBurdens_4, mo_o hm, mo_0 hm, mo_1 hm, mo_2 hm, mo_3 hm, mo_4 hm, mo_5 hm, mo_7 hm, mo_16 hm, mo_17 hm, mo_6 hm, mo_8 hm, mo_9 hm, mo_10 hm, mo_11 hm, mo_12 hm, mo_13 hm, mo_14 hm, mo_15 hm, mo_18 hm, rd_i h, rl0 h, rl1 h, rl2 h, rl3 h, rl4 h, rl5 h, rl6 h, rl7 h, rl1054 h, ix_p, ix_d, ix_b, ia0, ia1, ia2, ia3, ia4, ia5, ia6, ia7, ia8, ia9, ia10, ia11, ia12, zt_k, Nat.add_zero, c7, sp_nk, sp_openN]
theorem pm_amt (hm : P m = some (true, .inr (4, sp_mo A I))) (h : P (A 0) = some (true, .inl (.int, 1175, .inl r))) (hc : sp_C r) {q : Int32} : wp_X4_amounts post m q P = post (sp_amt r q) := by
  have hc' := hc
  obtain ⟨c4, c5, c6, c7, -, b4, b5, b6, b7, -⟩ := hc
  unfold wp_X4_amounts
  refine (ql2 (wb_X4_amounts_4 post (some m) q P) (wl_X4_amounts_4 post (some m) q P) (fun _ _ => rfl) (fun _ _ _ => rfl) (nB r) (sp_s (fun b => if ¬ sp_path r b ∧ (q < 0 ∨ sp_b r b 1 = q) then sp_b r b 2 else 0)) nI (fun _ => post (sp_amt r q)) (fun _ => False) (fun _ => False) ?_ ?_ ?_)
  · intro k hk K
    simp (disch := omega) only [wb_X4_amounts_4, wj_X4_amounts_57, wj_X4_amounts_44, mo_o hm, mo_0 hm, mo_1 hm, mo_2 hm, mo_3 hm, mo_4 hm, mo_5 hm, mo_7 hm, mo_16 hm, mo_17 hm, mo_6 hm, mo_8 hm, mo_9 hm, mo_10 hm, mo_11 hm, mo_12 hm, mo_13 hm, mo_14 hm, mo_15 hm, mo_18 hm, rd_i h, rl0 h, rl1 h, rl2 h, rl3 h, rl4 h, rl5 h, rl6 h, rl7 h, rl1054 h, ix_p, ix_d, ix_b, ia0, ia1, ia2, ia3, ia4, ia5, ia6, ia7, ia8, ia9, ia10, ia11, ia12, zt_k, Nat.add_zero, c7, sp_nn, pm_path h, zi_b0, zi_f not_false, sp_s, wp_X4_burdenAt, wp_X4_partAt]
    simp only [zi_if, sp_p, sp_d, sp_b, sp_e, sp_lv, sp_has, sp_at, sp_nbr, sp_obl, sp_path, sp_end, sp_hp, Nat.add_zero]
    grind [Int32.add_zero]
  · exact fun k _ => (zi_f not_false).symm
  · intro K
    simp (disch := omega) only [wb_X4_amounts_4, mo_o hm, mo_0 hm, mo_1 hm, mo_2 hm, mo_3 hm, mo_4 hm, mo_5 hm, mo_7 hm, mo_16 hm, mo_17 hm, mo_6 hm, mo_8 hm, mo_9 hm, mo_10 hm, mo_11 hm, mo_12 hm, mo_13 hm, mo_14 hm, mo_15 hm, mo_18 hm, rd_i h, rl0 h, rl1 h, rl2 h, rl3 h, rl4 h, rl5 h, rl6 h, rl7 h, rl1054 h, ix_p, ix_d, ix_b, ia0, ia1, ia2, ia3, ia4, ia5, ia6, ia7, ia8, ia9, ia10, ia11, ia12, zt_k, Nat.add_zero, c7, sp_nk, sp_amt]
theorem pm_nbrs (hm : P m = some (true, .inr (4, sp_mo A I))) (h : P (A 0) = some (true, .inl (.int, 1175, .inl r))) (hc : sp_C r) {p : Nat} (hp : p < 40) : wp_X4_neighbours post m (nI p) P = post (sp_nbrs r p) := by
  have hc' := hc
  obtain ⟨c4, c5, c6, c7, -, b4, b5, b6, b7, -⟩ := hc
  unfold wp_X4_neighbours
  refine (ql2 (wb_X4_neighbours_4 post (some m) (nI p) P) (wl_X4_neighbours_4 post (some m) (nI p) P) (fun _ _ => rfl) (fun _ _ _ => rfl) (nP r) (sp_s (fun q => if sp_nbr r p q then 1 else 0)) nI (fun _ => post (sp_nbrs r p)) (fun _ => False) (fun _ => False) ?_ ?_ ?_)
  · intro k hk K
    simp (disch := omega) only [wb_X4_neighbours_4, wj_X4_neighbours_29, mo_o hm, mo_0 hm, mo_1 hm, mo_2 hm, mo_3 hm, mo_4 hm, mo_5 hm, mo_7 hm, mo_16 hm, mo_17 hm, mo_6 hm, mo_8 hm, mo_9 hm, mo_10 hm, mo_11 hm, mo_12 hm, mo_13 hm, mo_14 hm, mo_15 hm, mo_18 hm, rd_i h, rl0 h, rl1 h, rl2 h, rl3 h, rl4 h, rl5 h, rl6 h, rl7 h, rl1054 h, ix_p, ix_d, ix_b, ia0, ia1, ia2, ia3, ia4, ia5, ia6, ia7, ia8, ia9, ia10, ia11, ia12, zt_k, Nat.add_zero, c5, sp_nn, pm_nbr h, zi_b0, zi_f not_false, sp_s, wp_X4_burdenAt, wp_X4_partAt]
    simp only [zi_if, sp_p, sp_d, sp_b, sp_e, sp_lv, sp_has, sp_at, sp_nbr, sp_obl, sp_path, sp_end, sp_hp, Nat.add_zero]
    grind [Int32.add_zero]
  · exact fun k _ => (zi_f not_false).symm
  · intro K
    simp (disch := omega) only [wb_X4_neighbours_4, mo_o hm, mo_0 hm, mo_1 hm, mo_2 hm, mo_3 hm, mo_4 hm, mo_5 hm, mo_7 hm, mo_16 hm, mo_17 hm, mo_6 hm, mo_8 hm, mo_9 hm, mo_10 hm, mo_11 hm, mo_12 hm, mo_13 hm, mo_14 hm, mo_15 hm, mo_18 hm, rd_i h, rl0 h, rl1 h, rl2 h, rl3 h, rl4 h, rl5 h, rl6 h, rl7 h, rl1054 h, ix_p, ix_d, ix_b, ia0, ia1, ia2, ia3, ia4, ia5, ia6, ia7, ia8, ia9, ia10, ia11, ia12, zt_k, Nat.add_zero, c5, sp_nk, sp_nbrs]
theorem pm_burs (hm : P m = some (true, .inr (4, sp_mo A I))) (h : P (A 0) = some (true, .inl (.int, 1175, .inl r))) (hc : sp_C r) {p : Nat} (hp : p < 40) : wp_X4_burdensOn post m (nI p) P = post (sp_burs r p) := by
  have hc' := hc
  obtain ⟨c4, c5, c6, c7, -, b4, b5, b6, b7, -⟩ := hc
  unfold wp_X4_burdensOn
  refine (ql2 (wb_X4_burdensOn_4 post (some m) (nI p) P) (wl_X4_burdensOn_4 post (some m) (nI p) P) (fun _ _ => rfl) (fun _ _ _ => rfl) (nB r) (sp_s (fun b => if sp_on r b p then 1 else 0)) nI (fun _ => post (sp_burs r p)) (fun _ => False) (fun _ => False) ?_ ?_ ?_)
  · intro k hk K
    simp (disch := omega) only [wb_X4_burdensOn_4, wj_X4_burdensOn_30, mo_o hm, mo_0 hm, mo_1 hm, mo_2 hm, mo_3 hm, mo_4 hm, mo_5 hm, mo_7 hm, mo_16 hm, mo_17 hm, mo_6 hm, mo_8 hm, mo_9 hm, mo_10 hm, mo_11 hm, mo_12 hm, mo_13 hm, mo_14 hm, mo_15 hm, mo_18 hm, rd_i h, rl0 h, rl1 h, rl2 h, rl3 h, rl4 h, rl5 h, rl6 h, rl7 h, rl1054 h, ix_p, ix_d, ix_b, ia0, ia1, ia2, ia3, ia4, ia5, ia6, ia7, ia8, ia9, ia10, ia11, ia12, zt_k, Nat.add_zero, c7, sp_nn, pm_on h, zi_b0, zi_f not_false, sp_s, wp_X4_burdenAt, wp_X4_partAt]
    simp only [zi_if, sp_p, sp_d, sp_b, sp_e, sp_lv, sp_has, sp_at, sp_nbr, sp_obl, sp_path, sp_end, sp_hp, Nat.add_zero]
    grind [Int32.add_zero]
  · exact fun k _ => (zi_f not_false).symm
  · intro K
    simp (disch := omega) only [wb_X4_burdensOn_4, mo_o hm, mo_0 hm, mo_1 hm, mo_2 hm, mo_3 hm, mo_4 hm, mo_5 hm, mo_7 hm, mo_16 hm, mo_17 hm, mo_6 hm, mo_8 hm, mo_9 hm, mo_10 hm, mo_11 hm, mo_12 hm, mo_13 hm, mo_14 hm, mo_15 hm, mo_18 hm, rd_i h, rl0 h, rl1 h, rl2 h, rl3 h, rl4 h, rl5 h, rl6 h, rl7 h, rl1054 h, ix_p, ix_d, ix_b, ia0, ia1, ia2, ia3, ia4, ia5, ia6, ia7, ia8, ia9, ia10, ia11, ia12, zt_k, Nat.add_zero, c7, sp_nk, sp_burs]
theorem pm_shrs (hm : P m = some (true, .inr (4, sp_mo A I))) (h : P (A 0) = some (true, .inl (.int, 1175, .inl r))) (hc : sp_C r) (hd : sp_D r) {p : Nat} (hp : p < nP r) : wp_X4_sharers post m (nI p) P = post (sp_shrs r p) := by
  have hc' := hc
  obtain ⟨c4, c5, c6, c7, -, b4, b5, b6, b7, -⟩ := hc
  unfold wp_X4_sharers
  refine (ql2 (wb_X4_sharers_4 post (some m) (nI p) P) (wl_X4_sharers_4 post (some m) (nI p) P) (fun _ _ => rfl) (fun _ _ _ => rfl) (nO r) (sp_s (fun q => if sp_share r p q ≤ 0 then 0 else 1)) nI (fun _ => post (sp_shrs r p)) (fun _ => False) (fun _ => False) ?_ ?_ ?_)
  · intro k hk K
    simp (disch := omega) only [wb_X4_sharers_4, wj_X4_sharers_29, mo_o hm, mo_0 hm, mo_1 hm, mo_2 hm, mo_3 hm, mo_4 hm, mo_5 hm, mo_7 hm, mo_16 hm, mo_17 hm, mo_6 hm, mo_8 hm, mo_9 hm, mo_10 hm, mo_11 hm, mo_12 hm, mo_13 hm, mo_14 hm, mo_15 hm, mo_18 hm, rd_i h, rl0 h, rl1 h, rl2 h, rl3 h, rl4 h, rl5 h, rl6 h, rl7 h, rl1054 h, ix_p, ix_d, ix_b, ia0, ia1, ia2, ia3, ia4, ia5, ia6, ia7, ia8, ia9, ia10, ia11, ia12, zt_k, Nat.add_zero, c4, sp_nn, pm_shareOf h hc' hd hp, zi_b0, zi_f not_false, sp_s, wp_X4_burdenAt, wp_X4_partAt]
    simp only [zi_if, sp_p, sp_d, sp_b, sp_e, sp_lv, sp_has, sp_at, sp_nbr, sp_obl, sp_path, sp_end, sp_hp, Nat.add_zero]
    grind [Int32.add_zero]
  · exact fun k _ => (zi_f not_false).symm
  · intro K
    simp (disch := omega) only [wb_X4_sharers_4, mo_o hm, mo_0 hm, mo_1 hm, mo_2 hm, mo_3 hm, mo_4 hm, mo_5 hm, mo_7 hm, mo_16 hm, mo_17 hm, mo_6 hm, mo_8 hm, mo_9 hm, mo_10 hm, mo_11 hm, mo_12 hm, mo_13 hm, mo_14 hm, mo_15 hm, mo_18 hm, rd_i h, rl0 h, rl1 h, rl2 h, rl3 h, rl4 h, rl5 h, rl6 h, rl7 h, rl1054 h, ix_p, ix_d, ix_b, ia0, ia1, ia2, ia3, ia4, ia5, ia6, ia7, ia8, ia9, ia10, ia11, ia12, zt_k, Nat.add_zero, c4, sp_nk, sp_shrs]
theorem pm_pairs (hm : P m = some (true, .inr (4, sp_mo A I))) (h : P (A 0) = some (true, .inl (.int, 1175, .inl r))) (hc : sp_C r) : wp_X4_neighbourPairs post m P = post (sp_pairs r / 2) := by
  have hc' := hc
  obtain ⟨c4, c5, c6, c7, -, b4, b5, b6, b7, -⟩ := hc
  unfold wp_X4_neighbourPairs
  refine (ql2 (wb_X4_neighbourPairs_4 post (some m) P) (wl_X4_neighbourPairs_4 post (some m) P) (fun _ _ => rfl) (fun _ _ _ => rfl) (nP r) (sp_s (fun p => if sp_lv r p then sp_nbrs r p else 0)) nI (fun _ => post (sp_pairs r / 2)) (fun _ => False) (fun _ => False) ?_ ?_ ?_)
  · intro k hk K
    simp (disch := omega) only [wb_X4_neighbourPairs_4, wj_X4_neighbourPairs_33, mo_o hm, mo_0 hm, mo_1 hm, mo_2 hm, mo_3 hm, mo_4 hm, mo_5 hm, mo_7 hm, mo_16 hm, mo_17 hm, mo_6 hm, mo_8 hm, mo_9 hm, mo_10 hm, mo_11 hm, mo_12 hm, mo_13 hm, mo_14 hm, mo_15 hm, mo_18 hm, rd_i h, rl0 h, rl1 h, rl2 h, rl3 h, rl4 h, rl5 h, rl6 h, rl7 h, rl1054 h, ix_p, ix_d, ix_b, ia0, ia1, ia2, ia3, ia4, ia5, ia6, ia7, ia8, ia9, ia10, ia11, ia12, zt_k, Nat.add_zero, c5, sp_nn, pm_isLive h, pm_nbrs hm h hc', zi_b0, zi_f not_false, sp_s]
    simp only [zi_if, sp_p, sp_d, sp_b, sp_e, sp_lv, sp_has, sp_at, sp_nbr, sp_obl, sp_path, sp_end, sp_hp, Nat.add_zero]
    grind [Int32.add_zero]
  · exact fun k _ => (zi_f not_false).symm
  · intro K
    simp (disch := omega) only [wb_X4_neighbourPairs_4, mo_o hm, mo_0 hm, mo_1 hm, mo_2 hm, mo_3 hm, mo_4 hm, mo_5 hm, mo_7 hm, mo_16 hm, mo_17 hm, mo_6 hm, mo_8 hm, mo_9 hm, mo_10 hm, mo_11 hm, mo_12 hm, mo_13 hm, mo_14 hm, mo_15 hm, mo_18 hm, rd_i h, rl0 h, rl1 h, rl2 h, rl3 h, rl4 h, rl5 h, rl6 h, rl7 h, rl1054 h, ix_p, ix_d, ix_b, ia0, ia1, ia2, ia3, ia4, ia5, ia6, ia7, ia8, ia9, ia10, ia11, ia12, zt_k, Nat.add_zero, c5, sp_nk, sp_pairs]
theorem zk_bi {c X : Prop} [Decidable c] : (zk_b .boolean (if c then (1 : Int32) else 0) ∧ X) = X := by
  refine propext ⟨fun h => h.2, fun h => ⟨?_, h⟩⟩
  by_cases e : c
  · rw [if_pos e]; exact narrow_b1
  · rw [if_neg e]; exact narrow_b0
abbrev sp_isP (r : sR) (x : Int32) : Prop := 0 ≤ x ∧ x ≤ r 5 - 1
abbrev sp_isO (r : sR) (x : Int32) : Prop := 0 ≤ x ∧ x ≤ r 4 - 1
abbrev sp_isB (r : sR) (x : Int32) : Prop := 0 ≤ x ∧ x ≤ r 7 - 1
abbrev sp_isS (r : sR) (x y : Int32) : Prop := (0 ≤ x ∧ x ≤ r 0 - 1) ∧ (0 ≤ y ∧ y ≤ r 1 - 1)
theorem sp_isN {n : Nat} {x : Int32} (h31 : n ≤ 60) (h : 0 ≤ x ∧ x ≤ nI n - 1) : ∃ p, p < n ∧ x = nI p := by
  obtain ⟨h1, h2⟩ := h
  obtain ⟨j, hj, rfl⟩ := nI_of (x := x) (by rw [Int32.not_lt]; exact h1)
  refine ⟨j, ?_, rfl⟩
  cases n with
  | zero =>
    rw [show nI 0 - 1 = -1 from by decide, Int32.le_iff_toInt_le, nI_toInt hj] at h2
    rw [show ((-1 : Int32)).toInt = -1 from by decide] at h2
    omega
  | succ n =>
    rw [nI_pred, nI_leI hj (by omega)] at h2
    omega
theorem sp_isP_n (hc : sp_C r) {x : Int32} (h : sp_isP r x) : ∃ p, p < nP r ∧ x = nI p := sp_isN (by have := hc.2.2.2.2.2.2.1; omega) (by rw [← hc.2.1]; exact h)
theorem sp_isO_n (hc : sp_C r) {x : Int32} (h : sp_isO r x) : ∃ p, p < nO r ∧ x = nI p := sp_isN (by have := hc.2.2.2.2.2.1; omega) (by rw [← hc.1]; exact h)
theorem sp_isB_n (hc : sp_C r) {x : Int32} (h : sp_isB r x) : ∃ p, p < nB r ∧ x = nI p := sp_isN (by have := hc.2.2.2.2.2.2.2.2.1; omega) (by rw [← hc.2.2.2.1]; exact h)
theorem pm_isP (hm : P m = some (true, .inr (4, sp_mo A I))) (h : P (A 0) = some (true, .inl (.int, 1175, .inl r))) {x : Int32} : wp_X4_isParcel post m x P = post (if sp_isP r x then 1 else 0) := by
  simp (disch := omega) only [wp_X4_isParcel, mo_o hm, mo_0 hm, mo_1 hm, mo_2 hm, mo_3 hm, mo_4 hm, mo_5 hm, mo_7 hm, mo_16 hm, mo_17 hm, mo_6 hm, mo_8 hm, mo_9 hm, mo_10 hm, mo_11 hm, mo_12 hm, mo_13 hm, mo_14 hm, mo_15 hm, mo_18 hm, rd_i h, rl0 h, rl1 h, rl2 h, rl3 h, rl4 h, rl5 h, rl6 h, rl7 h, rl1054 h, ix_p, ix_d, ix_b, ia0, ia1, ia2, ia3, ia4, ia5, ia6, ia7, ia8, ia9, ia10, ia11, ia12, zt_k, Nat.add_zero, pm_in, zk_bi]
theorem pm_isO (hm : P m = some (true, .inr (4, sp_mo A I))) (h : P (A 0) = some (true, .inl (.int, 1175, .inl r))) {x : Int32} : wp_X4_isOwner post m x P = post (if sp_isO r x then 1 else 0) := by
  simp (disch := omega) only [wp_X4_isOwner, mo_o hm, mo_0 hm, mo_1 hm, mo_2 hm, mo_3 hm, mo_4 hm, mo_5 hm, mo_7 hm, mo_16 hm, mo_17 hm, mo_6 hm, mo_8 hm, mo_9 hm, mo_10 hm, mo_11 hm, mo_12 hm, mo_13 hm, mo_14 hm, mo_15 hm, mo_18 hm, rd_i h, rl0 h, rl1 h, rl2 h, rl3 h, rl4 h, rl5 h, rl6 h, rl7 h, rl1054 h, ix_p, ix_d, ix_b, ia0, ia1, ia2, ia3, ia4, ia5, ia6, ia7, ia8, ia9, ia10, ia11, ia12, zt_k, Nat.add_zero, pm_in, zk_bi]
theorem pm_isB (hm : P m = some (true, .inr (4, sp_mo A I))) (h : P (A 0) = some (true, .inl (.int, 1175, .inl r))) {x : Int32} : wp_X4_isBurden post m x P = post (if sp_isB r x then 1 else 0) := by
  simp (disch := omega) only [wp_X4_isBurden, mo_o hm, mo_0 hm, mo_1 hm, mo_2 hm, mo_3 hm, mo_4 hm, mo_5 hm, mo_7 hm, mo_16 hm, mo_17 hm, mo_6 hm, mo_8 hm, mo_9 hm, mo_10 hm, mo_11 hm, mo_12 hm, mo_13 hm, mo_14 hm, mo_15 hm, mo_18 hm, rd_i h, rl0 h, rl1 h, rl2 h, rl3 h, rl4 h, rl5 h, rl6 h, rl7 h, rl1054 h, ix_p, ix_d, ix_b, ia0, ia1, ia2, ia3, ia4, ia5, ia6, ia7, ia8, ia9, ia10, ia11, ia12, zt_k, Nat.add_zero, pm_in, zk_bi]
theorem pm_isS (hm : P m = some (true, .inr (4, sp_mo A I))) (h : P (A 0) = some (true, .inl (.int, 1175, .inl r))) {x y : Int32} : wp_X4_isSquare post m x y P = post (if sp_isS r x y then 1 else 0) := by
  simp (disch := omega) only [wp_X4_isSquare, mo_o hm, mo_0 hm, mo_1 hm, mo_2 hm, mo_3 hm, mo_4 hm, mo_5 hm, mo_7 hm, mo_16 hm, mo_17 hm, mo_6 hm, mo_8 hm, mo_9 hm, mo_10 hm, mo_11 hm, mo_12 hm, mo_13 hm, mo_14 hm, mo_15 hm, mo_18 hm, rd_i h, rl0 h, rl1 h, rl2 h, rl3 h, rl4 h, rl5 h, rl6 h, rl7 h, rl1054 h, ix_p, ix_d, ix_b, ia0, ia1, ia2, ia3, ia4, ia5, ia6, ia7, ia8, ia9, ia10, ia11, ia12, zt_k, Nat.add_zero, pm_in, zi_b0]
  simp only [zi_if]
  grind
def sp_same (r : sR) (a b : Nat) : Prop := ¬ sp_min (fun q => ¬ sp_share r a q = sp_share r b q) (nO r) < nO r
theorem pm_same (h : P (A 0) = some (true, .inl (.int, 1175, .inl r))) (hc : sp_C r) (hd : sp_D r) {p q : Nat} (hp : p < nP r) (hq : q < nP r) : wp_X4_areSame post (some (A 0)) (nI p) (nI q) P = zi (sp_same r p q) (post 1) (post 0) := by
  have hc' := hc
  obtain ⟨c4, -, -, -, -, b4, -⟩ := hc
  unfold wp_X4_areSame sp_same
  rw [zi_not, zi_iff sp_ex_0.symm]
  refine (ql1 (wb_X4_areSame_2 post (some (A 0)) (nI p) (nI q) P) (wl_X4_areSame_2 post (some (A 0)) (nI p) (nI q) P) (fun _ => rfl) (fun _ _ => rfl) (nO r) nI (fun k => zi (sp_ex (fun o => ¬ sp_share r p o = sp_share r q o) (nO r) k) (post 0) (post 1)) (fun o => ¬ sp_share r p o = sp_share r q o) (fun _ => post 0) ?_ (fun k hk => sp_ex_s hk) ?_)
  · intro k hk K
    simp (disch := omega) only [wb_X4_areSame_2, rd_i h, rl0 h, rl1 h, rl2 h, rl3 h, rl4 h, rl5 h, rl6 h, rl7 h, rl1054 h, ix_p, ix_d, ix_b, ia0, ia1, ia2, ia3, ia4, ia5, ia6, ia7, ia8, ia9, ia10, ia11, ia12, zt_k, Nat.add_zero, c4, sp_nn, pm_shareOf h hc' hd hp, pm_shareOf h hc' hd hq, zi_not]
  · intro K
    simp (disch := omega) only [wb_X4_areSame_2, rd_i h, rl0 h, rl1 h, rl2 h, rl3 h, rl4 h, rl5 h, rl6 h, rl7 h, rl1054 h, ix_p, ix_d, ix_b, ia0, ia1, ia2, ia3, ia4, ia5, ia6, ia7, ia8, ia9, ia10, ia11, ia12, zt_k, Nat.add_zero, c4, sp_nk, sp_ex_n]
def sp_why (r : sR) (a b : Nat) : Int32 := if ¬ sp_lv r a ∨ ¬ sp_lv r b then 1 else if sp_p r a 7 = 1 ∨ sp_p r b 7 = 1 then 2 else if ¬ sp_obl r a b then 3 else if sp_min (fun q => ¬ sp_share r a q = sp_share r b q) (nO r) < nO r then 4 else 0
theorem pm_why (hm : P m = some (true, .inr (4, sp_mo A I))) (h : P (A 0) = some (true, .inl (.int, 1175, .inl r))) (hc : sp_C r) (hd : sp_D r) {p q : Nat} (hp : p < nP r) (hq : q < nP r) : wp_X4_reason post m (nI p) (nI q) P = post (sp_why r p q) := by
  have b5 := hc.2.2.2.2.2.2.1
  simp (disch := omega) only [wp_X4_reason, mo_o hm, mo_0 hm, mo_1 hm, mo_2 hm, mo_3 hm, mo_4 hm, mo_5 hm, mo_7 hm, mo_16 hm, mo_17 hm, mo_6 hm, mo_8 hm, mo_9 hm, mo_10 hm, mo_11 hm, mo_12 hm, mo_13 hm, mo_14 hm, mo_15 hm, mo_18 hm, rd_i h, rl0 h, rl1 h, rl2 h, rl3 h, rl4 h, rl5 h, rl6 h, rl7 h, rl1054 h, ix_p, ix_d, ix_b, ia0, ia1, ia2, ia3, ia4, ia5, ia6, ia7, ia8, ia9, ia10, ia11, ia12, zt_k, Nat.add_zero, pm_isLive h, pm_isBarred h, pm_obl h, pm_same h hc hd hp hq, zi_b0]
  simp only [zi_if, sp_why, sp_same]
  grind
theorem pm_two (hm : P m = some (true, .inr (4, sp_mo A I))) (h : P (A 0) = some (true, .inl (.int, 1175, .inl r))) {x y : Int32} : wp_X4_areTwo post m x y P = post (if sp_isP r x ∧ sp_isP r y ∧ ¬ x = y then 1 else 0) := by
  simp (disch := omega) only [wp_X4_areTwo, mo_o hm, mo_0 hm, mo_1 hm, mo_2 hm, mo_3 hm, mo_4 hm, mo_5 hm, mo_7 hm, mo_16 hm, mo_17 hm, mo_6 hm, mo_8 hm, mo_9 hm, mo_10 hm, mo_11 hm, mo_12 hm, mo_13 hm, mo_14 hm, mo_15 hm, mo_18 hm, rd_i h, rl0 h, rl1 h, rl2 h, rl3 h, rl4 h, rl5 h, rl6 h, rl7 h, rl1054 h, ix_p, ix_d, ix_b, ia0, ia1, ia2, ia3, ia4, ia5, ia6, ia7, ia8, ia9, ia10, ia11, ia12, zt_k, Nat.add_zero, pm_isP hm h, zi_b0]
  simp only [zi_if]
  grind
theorem pm_fixed (hm : P m = some (true, .inr (4, sp_mo A I))) (h : P (A 0) = some (true, .inl (.int, 1175, .inl r))) {p : Nat} (hp : p < 40) : wp_X4_isFixed post m (nI p) P = post (if sp_lv r p ∧ ¬ sp_p r p 7 = 1 then 0 else 1) := by
  simp (disch := omega) only [wp_X4_isFixed, wj_X4_isFixed_22, mo_o hm, mo_0 hm, mo_1 hm, mo_2 hm, mo_3 hm, mo_4 hm, mo_5 hm, mo_7 hm, mo_16 hm, mo_17 hm, mo_6 hm, mo_8 hm, mo_9 hm, mo_10 hm, mo_11 hm, mo_12 hm, mo_13 hm, mo_14 hm, mo_15 hm, mo_18 hm, rd_i h, rl0 h, rl1 h, rl2 h, rl3 h, rl4 h, rl5 h, rl6 h, rl7 h, rl1054 h, ix_p, ix_d, ix_b, ia0, ia1, ia2, ia3, ia4, ia5, ia6, ia7, ia8, ia9, ia10, ia11, ia12, zt_k, Nat.add_zero, pm_isLive h, pm_isBarred h, zi_b0]
  simp only [zi_if]
  grind
abbrev sp_line (r : sR) (x w t : Int32) : Prop := sp_isP r x ∧ (0 ≤ w ∧ w ≤ 1) ∧ (1 ≤ t ∧ t ≤ sp_p r x.toNatClampNeg (if w = 1 then 3 else 2) - 1)
theorem pm_line (hm : P m = some (true, .inr (4, sp_mo A I))) (h : P (A 0) = some (true, .inl (.int, 1175, .inl r))) (hc : sp_C r) {x w q : Int32} : wp_X4_isLine post m x w q P = post (if sp_line r x w q then 1 else 0) := by
  have b5 := hc.2.2.2.2.2.2.1
  simp only [wp_X4_isLine, mo_o hm, pm_isP hm h, zi_b0]
  by_cases g : sp_isP r x
  · obtain ⟨p, hp, rfl⟩ := sp_isP_n hc g
    rw [zi_t g]
    simp (disch := omega) only [wj_X4_isLine_34, wp_X4_partAt, mo_o hm, mo_0 hm, mo_1 hm, mo_2 hm, mo_3 hm, mo_4 hm, mo_5 hm, mo_7 hm, mo_16 hm, mo_17 hm, mo_6 hm, mo_8 hm, mo_9 hm, mo_10 hm, mo_11 hm, mo_12 hm, mo_13 hm, mo_14 hm, mo_15 hm, mo_18 hm, rd_i h, rl0 h, rl1 h, rl2 h, rl3 h, rl4 h, rl5 h, rl6 h, rl7 h, rl1054 h, ix_p, ix_d, ix_b, ia0, ia1, ia2, ia3, ia4, ia5, ia6, ia7, ia8, ia9, ia10, ia11, ia12, zt_k, Nat.add_zero, pm_in, zi_b0, sp_line, nI_clamp]
    simp only [zi_if, sp_p, sp_d, sp_b, sp_e, sp_lv, sp_has, sp_at, sp_nbr, sp_obl, sp_path, sp_end, sp_hp, Nat.add_zero]
    grind
  · rw [zi_f g, if_neg (fun e => g e.1)]
def sp_lf (c : Nat → Prop) [DecidablePred c] (i : Int32) : Nat → Int32
  | 0 => i
  | k + 1 => if c k then sp_lf c i k + (-1) else sp_lf c i k
def sp_pk (c : Nat → Prop) [DecidablePred c] (i : Int32) (n : Nat) : Nat → Int32
  | 0 => -2
  | k + 1 => if c (n - (k + 1)) ∧ sp_lf c i (n - (k + 1)) = 0 then nI (n - (k + 1)) else sp_pk c i n k
def sp_pick (c : Nat → Prop) [DecidablePred c] (i : Int32) (n : Nat) : Int32 := sp_pk c i n n
theorem sp_pkb {A B X : Prop} [Decidable A] {K : Int32 → Int32 → Prop} {u v w : Int32} : zi A (zi B X (K u w)) (K v w) = zi (A ∧ B) X (K (if A then u else v) w) := by
  by_cases h : A
  · rw [zi_t h, if_pos h, zi_and, zi_t h]
  · rw [zi_f h, if_neg h, zi_f (fun q => h q.1)]
theorem zi_na {A B Y Z : Prop} : zi A Z (zi B Y Z) = zi (¬ A ∧ B) Y Z := by rw [zi_and, zi_not]
theorem sp_pk_s (c : Nat → Prop) [DecidablePred c] (i : Int32) {n k : Nat} (hk : k < n) {post : Int32 → Prop} : post (sp_pk c i n (n - k)) = zi (c k ∧ sp_lf c i k = 0) (post (nI k)) (post (sp_pk c i n (n - (k + 1)))) := by
  obtain ⟨d, hd⟩ : ∃ d, n - k = d + 1 := ⟨n - k - 1, by omega⟩
  have e : n - (k + 1) = d := by omega
  have e2 : n - (d + 1) = k := by omega
  rw [hd, e, zi_ite]
  show post (if _ then _ else _) = _
  rw [e2]
/-- the first below n -/
def sp_fs (c : Nat → Prop) [DecidablePred c] (n : Nat) : Nat → Int32
  | 0 => -2
  | k + 1 => if c (n - (k + 1)) then nI (n - (k + 1)) else sp_fs c n k
def sp_fst (c : Nat → Prop) [DecidablePred c] (n : Nat) : Int32 := sp_fs c n n
theorem sp_fs_s (c : Nat → Prop) [DecidablePred c] {n k : Nat} (hk : k < n) {post : Int32 → Prop} : post (sp_fs c n (n - k)) = zi (c k) (post (nI k)) (post (sp_fs c n (n - (k + 1)))) := by
  obtain ⟨d, hd⟩ : ∃ d, n - k = d + 1 := ⟨n - k - 1, by omega⟩
  have e : n - (k + 1) = d := by omega
  have e2 : n - (d + 1) = k := by omega
  rw [hd, e, zi_ite]
  show post (if _ then _ else _) = _
  rw [e2]
theorem ql_pick (body : (Int32 → Int32 → Prop) → Int32 → Int32 → Prop) (wl : Nat → Int32 → Int32 → Prop) (h0 : ∀ a b, wl 0 a b = False) (hs : ∀ n a b, wl (n + 1) a b = body (wl n) a b) (c : Nat → Prop) [DecidablePred c] (i : Int32) (n : Nat) (post : Int32 → Prop)
    (hb : ∀ k, k < n → ∀ (l : Int32) K, body K l (nI k) = zi (c k) (zi (l = 0) (post (nI k)) (K (l + (-1)) (nI (k + 1)))) (K l (nI (k + 1)))) (hm : ∀ (l : Int32) K, body K l (nI n) = post (-2)) : (∃ j, wl j i (nI 0)) = post (sp_pick c i n) := by
  have e := ql2 body wl h0 hs n (sp_lf c i) nI (fun k => post (sp_pk c i n (n - k))) (fun k => c k ∧ sp_lf c i k = 0) (fun k => post (nI k)) (fun k hk K => by
    rw [hb k hk]
    exact sp_pkb) (fun k hk => sp_pk_s c i hk) (fun K => by
    rw [hm, Nat.sub_self]
    rfl)
  rw [Nat.sub_zero] at e
  exact e
theorem pm_neighbourL (hm : P m = some (true, .inr (4, sp_mo A I))) (h : P (A 0) = some (true, .inl (.int, 1175, .inl r))) (hc : sp_C r) {p : Nat} (hp : p < 40) {i : Int32} : (∃ j, wl_X4_neighbour_19 post (some m) (nI p) P j i (nI 0)) = post (sp_pick (fun q => sp_nbr r p q) i (nP r)) := by
  have hc' := hc
  obtain ⟨c4, c5, c6, c7, -, b4, b5, b6, b7, -⟩ := hc
  refine ql_pick (wb_X4_neighbour_19 post (some m) (nI p) P) (wl_X4_neighbour_19 post (some m) (nI p) P) (fun _ _ => rfl) (fun _ _ _ => rfl) (fun q => sp_nbr r p q) i (nP r) post ?_ ?_
  · intro k hk l K
    simp (disch := omega) only [wb_X4_neighbour_19, wj_X4_neighbour_56, mo_o hm, mo_0 hm, mo_1 hm, mo_2 hm, mo_3 hm, mo_4 hm, mo_5 hm, mo_7 hm, mo_16 hm, mo_17 hm, mo_6 hm, mo_8 hm, mo_9 hm, mo_10 hm, mo_11 hm, mo_12 hm, mo_13 hm, mo_14 hm, mo_15 hm, mo_18 hm, rd_i h, rl0 h, rl1 h, rl2 h, rl3 h, rl4 h, rl5 h, rl6 h, rl7 h, rl1054 h, ix_p, ix_d, ix_b, ia0, ia1, ia2, ia3, ia4, ia5, ia6, ia7, ia8, ia9, ia10, ia11, ia12, zt_k, Nat.add_zero, c5, sp_nn, pm_nbr h, zi_b0, zi_neq]
  · intro l K
    unfold wb_X4_neighbour_19
    rw [mo_0 hm, rl5 h, c5]
    exact sp_nk _
theorem pm_liesL (hm : P m = some (true, .inr (4, sp_mo A I))) (h : P (A 0) = some (true, .inl (.int, 1175, .inl r))) (hc : sp_C r) {b : Nat} (hb : b < 20) {i : Int32} : (∃ j, wl_X4_lies_19 post (some m) (nI b) P j i (nI 0)) = post (sp_pick (fun p => sp_on r b p) i (nP r)) := by
  have hc' := hc
  obtain ⟨c4, c5, c6, c7, -, b4, b5, b6, b7, -⟩ := hc
  refine ql_pick (wb_X4_lies_19 post (some m) (nI b) P) (wl_X4_lies_19 post (some m) (nI b) P) (fun _ _ => rfl) (fun _ _ _ => rfl) (fun p => sp_on r b p) i (nP r) post ?_ ?_
  · intro k hk l K
    simp (disch := omega) only [wb_X4_lies_19, wj_X4_lies_56, mo_o hm, mo_0 hm, mo_1 hm, mo_2 hm, mo_3 hm, mo_4 hm, mo_5 hm, mo_7 hm, mo_16 hm, mo_17 hm, mo_6 hm, mo_8 hm, mo_9 hm, mo_10 hm, mo_11 hm, mo_12 hm, mo_13 hm, mo_14 hm, mo_15 hm, mo_18 hm, rd_i h, rl0 h, rl1 h, rl2 h, rl3 h, rl4 h, rl5 h, rl6 h, rl7 h, rl1054 h, ix_p, ix_d, ix_b, ia0, ia1, ia2, ia3, ia4, ia5, ia6, ia7, ia8, ia9, ia10, ia11, ia12, zt_k, Nat.add_zero, c5, sp_nn, pm_on h, zi_b0, zi_neq]
  · intro l K
    unfold wb_X4_lies_19
    rw [mo_0 hm, rl5 h, c5]
    exact sp_nk _
theorem pm_joinableL (hm : P m = some (true, .inr (4, sp_mo A I))) (h : P (A 0) = some (true, .inl (.int, 1175, .inl r))) (hc : sp_C r) (hd : sp_D r) {p : Nat} (hp : p < nP r) {i : Int32} : (∃ j, wl_X4_joinable_19 post (some m) (nI p) P j i (nI 0)) = post (sp_pick (fun q => ¬ q = p ∧ sp_why r p q = 0) i (nP r)) := by
  have hc' := hc
  obtain ⟨c4, c5, c6, c7, -, b4, b5, b6, b7, -⟩ := hc
  refine ql_pick (wb_X4_joinable_19 post (some m) (nI p) P) (wl_X4_joinable_19 post (some m) (nI p) P) (fun _ _ => rfl) (fun _ _ _ => rfl) (fun q => ¬ q = p ∧ sp_why r p q = 0) i (nP r) post ?_ ?_
  · intro k hk l K
    simp (disch := omega) only [wb_X4_joinable_19, wj_X4_joinable_59, mo_o hm, mo_0 hm, mo_1 hm, mo_2 hm, mo_3 hm, mo_4 hm, mo_5 hm, mo_7 hm, mo_16 hm, mo_17 hm, mo_6 hm, mo_8 hm, mo_9 hm, mo_10 hm, mo_11 hm, mo_12 hm, mo_13 hm, mo_14 hm, mo_15 hm, mo_18 hm, rd_i h, rl0 h, rl1 h, rl2 h, rl3 h, rl4 h, rl5 h, rl6 h, rl7 h, rl1054 h, ix_p, ix_d, ix_b, ia0, ia1, ia2, ia3, ia4, ia5, ia6, ia7, ia8, ia9, ia10, ia11, ia12, zt_k, Nat.add_zero, c5, sp_nn, pm_why hm h hc' hd hp, zi_b0, zi_neq]
    exact zi_na
  · intro l K
    unfold wb_X4_joinable_19
    rw [mo_0 hm, rl5 h, c5]
    exact sp_nk _
def sp_value (r : sR) (u w : Int32) : Int32 := if w = 0 then r 0 else if w = 1 then r 1 else if w = 2 then r 2 else if w = 3 then r 3 else if w = 4 then r 4 else if w = 5 then r 5 else if w = 6 then sp_liveN r else if w = 7 then sp_barN r else if w = 8 then r 6 else if w = 9 then r 7 else if w = 10 then sp_openN r else if w = 11 then sp_amt r (-2) else if w = 12 then sp_uns r else if w = 13 then sp_pairs r / 2 else if w = 14 then r 1054 else if w = 15 then u else -1
theorem zi_w {x k : Int32} {F : Int32 → Prop} {B : Prop} : zi (x = k) (F x) B = zi (x = k) (F k) B := by
  by_cases h : x = k
  · rw [zi_t h, zi_t h, h]
  · rw [zi_f h, zi_f h]
theorem pm_value (hm : P m = some (true, .inr (4, sp_mo A I))) (h : P (A 0) = some (true, .inl (.int, 1175, .inl r))) (hc : sp_C r) {w : Int32} : wp_X4_value post m w P = post (sp_value r (I 6) w) := by
  unfold wp_X4_value sp_value
  simp only [mo_o hm, mo_0 hm, mo_6 hm, pm_liveN hm h hc, pm_barN hm h hc, pm_openN hm h hc, pm_amt hm h hc, pm_uns h hc, pm_pairs hm h hc, rl6 h, rl7 h, rl1054 h, ← zi_ite]
  rw [zi_w (x := w) (k := 0) (F := fun x => za_i P (some (A 0)) .int x _), rl0 h]
  rw [zi_w (x := w) (k := 1) (F := fun x => za_i P (some (A 0)) .int x _), rl1 h]
  rw [zi_w (x := w) (k := 2) (F := fun x => za_i P (some (A 0)) .int x _), rl2 h]
  rw [zi_w (x := w) (k := 3) (F := fun x => za_i P (some (A 0)) .int x _), rl3 h]
  rw [zi_w (x := w) (k := 4) (F := fun x => za_i P (some (A 0)) .int x _), rl4 h]
  rw [zi_w (x := w) (k := 5) (F := fun x => za_i P (some (A 0)) .int x _), rl5 h]
def sp_pq (r : sR) (p : Nat) (w : Int32) : Int32 := if w = 0 then sp_p r p 0 else if w = 1 then sp_p r p 1 else if w = 2 then sp_p r p 2 else if w = 3 then sp_p r p 3 else if w = 4 then sp_area r p else if w = 5 then sp_p r p 4 else if w = 6 then sp_p r p 5 else if w = 7 then sp_p r p 6 else if w = 8 then sp_p r p 7 else if w = 9 then sp_burs r p else if w = 10 then sp_ahead r p 20 else if w = 11 then sp_worth r p else if w = 12 then sp_shrs r p else if w = 13 then sp_nbrs r p else -1
def sp_parcel (r : sR) (x w : Int32) : Int32 := if sp_isP r x then sp_pq r x.toNatClampNeg w else -1
theorem pm_parcel (hm : P m = some (true, .inr (4, sp_mo A I))) (h : P (A 0) = some (true, .inl (.int, 1175, .inl r))) (hc : sp_C r) (hd : sp_D r) {x w : Int32} : wp_X4_parcel post m x w P = post (sp_parcel r x w) := by
  have b5 := hc.2.2.2.2.2.2.1
  simp only [wp_X4_parcel, mo_o hm, pm_isP hm h, zi_b0, sp_parcel]
  by_cases g : sp_isP r x
  · rw [zi_t g, if_pos g]
    obtain ⟨p, hp, rfl⟩ := sp_isP_n hc g
    have hp4 : p < 40 := by omega
    rw [nI_clamp (by omega)]
    unfold sp_pq
    simp only [← zi_ite]
    simp (disch := omega) only [mo_0 hm, mo_o hm, pm_area h, pm_worth h, pm_burs hm h hc, pm_load0 h hc, pm_shrs hm h hc hd, pm_nbrs hm h hc, wp_X4_partAt, ix_p, ia4, ia5, ia6, ia7, rd_i h]
    rw [zi_w (x := w) (k := 0) (F := fun x => za_i P (some (A 0)) .int (nI (14 + 10 * p) + x) _), ia0, rd_i h _ (by omega) (by omega)]
    rw [zi_w (x := w) (k := 1) (F := fun x => za_i P (some (A 0)) .int (nI (14 + 10 * p) + x) _), ia1, rd_i h _ (by omega) (by omega)]
    rw [zi_w (x := w) (k := 2) (F := fun x => za_i P (some (A 0)) .int (nI (14 + 10 * p) + x) _), ia2, rd_i h _ (by omega) (by omega)]
    rw [zi_w (x := w) (k := 3) (F := fun x => za_i P (some (A 0)) .int (nI (14 + 10 * p) + x) _), ia3, rd_i h _ (by omega) (by omega)]
  · rw [zi_f g, if_neg g]
def sp_parent (r : sR) (x i : Int32) : Int32 := if sp_isP r x ∧ 0 ≤ i then (if i = 0 then sp_p r x.toNatClampNeg 8 else if i = 1 then sp_p r x.toNatClampNeg 9 else -2) else -1
theorem pm_parent (hm : P m = some (true, .inr (4, sp_mo A I))) (h : P (A 0) = some (true, .inl (.int, 1175, .inl r))) (hc : sp_C r) {x i : Int32} : wp_X4_parent post m x i P = post (sp_parent r x i) := by
  have b5 := hc.2.2.2.2.2.2.1
  simp only [wp_X4_parent, mo_o hm, pm_isP hm h, zi_b0, sp_parent]
  by_cases g : sp_isP r x
  · rw [zi_t g]
    obtain ⟨p, hp, rfl⟩ := sp_isP_n hc g
    rw [nI_clamp (by omega)]
    simp only [← zi_ite, zi_and, zi_t g]
    simp (disch := omega) only [wp_X4_partAt, mo_o hm, mo_0 hm, mo_1 hm, mo_2 hm, mo_3 hm, mo_4 hm, mo_5 hm, mo_7 hm, mo_16 hm, mo_17 hm, mo_6 hm, mo_8 hm, mo_9 hm, mo_10 hm, mo_11 hm, mo_12 hm, mo_13 hm, mo_14 hm, mo_15 hm, mo_18 hm, rd_i h, rl0 h, rl1 h, rl2 h, rl3 h, rl4 h, rl5 h, rl6 h, rl7 h, rl1054 h, ix_p, ix_d, ix_b, ia0, ia1, ia2, ia3, ia4, ia5, ia6, ia7, ia8, ia9, ia10, ia11, ia12, zt_k, Nat.add_zero]
  · rw [zi_f g, if_neg (fun q => g q.1)]
def sp_shq (r : sR) (x y : Int32) : Int32 := if sp_isP r x ∧ sp_isO r y then sp_share r x.toNatClampNeg y.toNatClampNeg else -1
theorem pm_share (hm : P m = some (true, .inr (4, sp_mo A I))) (h : P (A 0) = some (true, .inl (.int, 1175, .inl r))) (hc : sp_C r) (hd : sp_D r) {x y : Int32} : wp_X4_share post m x y P = post (sp_shq r x y) := by
  have b4 := hc.2.2.2.2.2.1
  have b5 := hc.2.2.2.2.2.2.1
  simp only [wp_X4_share, mo_o hm, pm_isP hm h, pm_isO hm h, zi_b0, sp_shq]
  by_cases g : sp_isP r x
  · rw [zi_t g]
    by_cases g2 : sp_isO r y
    · rw [zi_t g2, if_pos ⟨g, g2⟩]
      obtain ⟨p, hp, rfl⟩ := sp_isP_n hc g
      obtain ⟨q, hq, rfl⟩ := sp_isO_n hc g2
      simp (disch := omega) only [nI_clamp, mo_0 hm, pm_shareOf h hc hd hp]
    · rw [zi_f g2, if_neg (fun q => g2 q.2)]
  · rw [zi_f g, if_neg (fun q => g q.1)]
def sp_edq (r : sR) (x y : Int32) : Int32 := if sp_isP r x ∧ sp_isP r y then sp_edge r x.toNatClampNeg y.toNatClampNeg else -1
theorem pm_edgeq (hm : P m = some (true, .inr (4, sp_mo A I))) (h : P (A 0) = some (true, .inl (.int, 1175, .inl r))) (hc : sp_C r) {x y : Int32} : wp_X4_edge post m x y P = post (sp_edq r x y) := by
  have b5 := hc.2.2.2.2.2.2.1
  simp only [wp_X4_edge, mo_o hm, pm_isP hm h, zi_b0, sp_edq]
  by_cases g : sp_isP r x
  · rw [zi_t g]
    by_cases g2 : sp_isP r y
    · rw [zi_t g2, if_pos ⟨g, g2⟩]
      obtain ⟨p, hp, rfl⟩ := sp_isP_n hc g
      obtain ⟨q, hq, rfl⟩ := sp_isP_n hc g2
      simp (disch := omega) only [nI_clamp, mo_0 hm, pm_edge h]
    · rw [zi_f g2, if_neg (fun q => g2 q.2)]
  · rw [zi_f g, if_neg (fun q => g q.1)]
def sp_whyq (r : sR) (x y : Int32) : Int32 := if sp_isP r x ∧ sp_isP r y ∧ ¬ x = y then sp_why r x.toNatClampNeg y.toNatClampNeg else -1
theorem pm_whyq (hm : P m = some (true, .inr (4, sp_mo A I))) (h : P (A 0) = some (true, .inl (.int, 1175, .inl r))) (hc : sp_C r) (hd : sp_D r) {x y : Int32} : wp_X4_whyNot post m x y P = post (sp_whyq r x y) := by
  have b5 := hc.2.2.2.2.2.2.1
  simp only [wp_X4_whyNot, mo_o hm, pm_two hm h, zi_b0, sp_whyq]
  by_cases g : sp_isP r x ∧ sp_isP r y ∧ ¬ x = y
  · rw [zi_t g, if_pos g]
    obtain ⟨p, hp, rfl⟩ := sp_isP_n hc g.1
    obtain ⟨q, hq, rfl⟩ := sp_isP_n hc g.2.1
    simp (disch := omega) only [nI_clamp, pm_why hm h hc hd hp hq]
  · rw [zi_f g, if_neg g]
def sp_burden (r : sR) (x w : Int32) : Int32 := if sp_isB r x then (if w = 0 then sp_b r x.toNatClampNeg 0 else if w = 1 then sp_b r x.toNatClampNeg 1 else if w = 2 then sp_b r x.toNatClampNeg 2 else if w = 3 then sp_b r x.toNatClampNeg 3 else if w = 4 then sp_b r x.toNatClampNeg 4 else if w = 5 then sp_many r x.toNatClampNeg else if w = 6 then (if sp_path r x.toNatClampNeg then -2 else sp_cover r x.toNatClampNeg (-2)) else if w = 7 then sp_b r x.toNatClampNeg 5 else -1) else -1
theorem pm_burden (hm : P m = some (true, .inr (4, sp_mo A I))) (h : P (A 0) = some (true, .inl (.int, 1175, .inl r))) (hc : sp_C r) {x w : Int32} : wp_X4_burden post m x w P = post (sp_burden r x w) := by
  have b7 := hc.2.2.2.2.2.2.2.2.1
  simp only [wp_X4_burden, mo_o hm, pm_isB hm h, zi_b0, sp_burden]
  by_cases g : sp_isB r x
  · rw [zi_t g, if_pos g]
    obtain ⟨b, hb, rfl⟩ := sp_isB_n hc g
    rw [nI_clamp (by omega)]
    simp only [← zi_ite]
    simp (disch := omega) only [mo_0 hm, pm_many h hc, pm_path h, zi_b0, pm_cover h hc, wp_X4_burdenAt, ix_b, ia5, rd_i h]
    rw [zi_w (x := w) (k := 0) (F := fun x => za_i P (some (A 0)) .int (nI (894 + 8 * b) + x) _), ia0, rd_i h _ (by omega) (by omega)]
    rw [zi_w (x := w) (k := 1) (F := fun x => za_i P (some (A 0)) .int (nI (894 + 8 * b) + x) _), ia1, rd_i h _ (by omega) (by omega)]
    rw [zi_w (x := w) (k := 2) (F := fun x => za_i P (some (A 0)) .int (nI (894 + 8 * b) + x) _), ia2, rd_i h _ (by omega) (by omega)]
    rw [zi_w (x := w) (k := 3) (F := fun x => za_i P (some (A 0)) .int (nI (894 + 8 * b) + x) _), ia3, rd_i h _ (by omega) (by omega)]
    rw [zi_w (x := w) (k := 4) (F := fun x => za_i P (some (A 0)) .int (nI (894 + 8 * b) + x) _), ia4, rd_i h _ (by omega) (by omega)]
  · rw [zi_f g, if_neg g]
def sp_rankq (r : sR) (x y : Int32) : Int32 := if sp_isB r x ∧ sp_isP r y then (if sp_on r x.toNatClampNeg y.toNatClampNeg then sp_rank r x.toNatClampNeg y.toNatClampNeg else -2) else -1
theorem pm_rankq (hm : P m = some (true, .inr (4, sp_mo A I))) (h : P (A 0) = some (true, .inl (.int, 1175, .inl r))) (hc : sp_C r) {x y : Int32} : wp_X4_rank post m x y P = post (sp_rankq r x y) := by
  have b5 := hc.2.2.2.2.2.2.1
  have b7 := hc.2.2.2.2.2.2.2.2.1
  simp only [wp_X4_rank, mo_o hm, pm_isP hm h, pm_isB hm h, zi_b0, sp_rankq]
  by_cases g : sp_isB r x
  · rw [zi_t g]
    by_cases g2 : sp_isP r y
    · rw [zi_t g2, if_pos ⟨g, g2⟩]
      obtain ⟨b, hb, rfl⟩ := sp_isB_n hc g
      obtain ⟨p, hp, rfl⟩ := sp_isP_n hc g2
      rw [nI_clamp (by omega), nI_clamp (by omega)]
      simp only [← zi_ite]
      simp (disch := omega) only [mo_0 hm, pm_on h, pm_rankOf h hc, zi_b0]
    · rw [zi_f g2, if_neg (fun q => g2 q.2)]
  · rw [zi_f g, if_neg (fun q => g q.1)]
def sp_freed (r : sR) (x y : Int32) : Int32 := if sp_isB r x ∧ sp_isP r y then (if sp_path r x.toNatClampNeg ∨ ¬ sp_on r x.toNatClampNeg y.toNatClampNeg then -2 else sp_cover r x.toNatClampNeg y) else -1
theorem pm_freed (hm : P m = some (true, .inr (4, sp_mo A I))) (h : P (A 0) = some (true, .inl (.int, 1175, .inl r))) (hc : sp_C r) {x y : Int32} : wp_X4_ifFreed post m x y P = post (sp_freed r x y) := by
  have b5 := hc.2.2.2.2.2.2.1
  have b7 := hc.2.2.2.2.2.2.2.2.1
  simp only [wp_X4_ifFreed, wj_X4_ifFreed_41, mo_o hm, pm_isP hm h, pm_isB hm h, zi_b0, sp_freed]
  by_cases g : sp_isB r x
  · rw [zi_t g]
    by_cases g2 : sp_isP r y
    · rw [zi_t g2, if_pos ⟨g, g2⟩]
      obtain ⟨b, hb, rfl⟩ := sp_isB_n hc g
      obtain ⟨p, hp, rfl⟩ := sp_isP_n hc g2
      rw [nI_clamp (by omega), nI_clamp (by omega)]
      simp only [← zi_ite, zi_or, zi_not]
      simp (disch := omega) only [mo_0 hm, pm_on h, pm_path h, pm_cover h hc, zi_b0]
    · rw [zi_f g2, if_neg (fun q => g2 q.2)]
  · rw [zi_f g, if_neg (fun q => g q.1)]
def sp_nbrq (r : sR) (x i : Int32) : Int32 := if sp_isP r x ∧ 0 ≤ i then sp_pick (fun q => sp_nbr r x.toNatClampNeg q) i (nP r) else -1
theorem pm_nbrq (hm : P m = some (true, .inr (4, sp_mo A I))) (h : P (A 0) = some (true, .inl (.int, 1175, .inl r))) (hc : sp_C r) {x i : Int32} : wp_X4_neighbour post m x i P = post (sp_nbrq r x i) := by
  have b5 := hc.2.2.2.2.2.2.1
  simp only [wp_X4_neighbour, mo_o hm, pm_isP hm h, zi_b0, sp_nbrq]
  by_cases g : sp_isP r x
  · rw [zi_t g]
    by_cases g2 : 0 ≤ i
    · rw [zi_t g2, if_pos ⟨g, g2⟩]
      obtain ⟨p, hp, rfl⟩ := sp_isP_n hc g
      rw [nI_clamp (by omega)]
      exact pm_neighbourL hm h hc (by omega)
    · rw [zi_f g2, if_neg (fun q => g2 q.2)]
  · rw [zi_f g, if_neg (fun q => g q.1)]
def sp_lies (r : sR) (x i : Int32) : Int32 := if sp_isB r x ∧ 0 ≤ i then sp_pick (fun p => sp_on r x.toNatClampNeg p) i (nP r) else -1
theorem pm_lies (hm : P m = some (true, .inr (4, sp_mo A I))) (h : P (A 0) = some (true, .inl (.int, 1175, .inl r))) (hc : sp_C r) {x i : Int32} : wp_X4_lies post m x i P = post (sp_lies r x i) := by
  have b7 := hc.2.2.2.2.2.2.2.2.1
  simp only [wp_X4_lies, mo_o hm, pm_isB hm h, zi_b0, sp_lies]
  by_cases g : sp_isB r x
  · rw [zi_t g]
    by_cases g2 : 0 ≤ i
    · rw [zi_t g2, if_pos ⟨g, g2⟩]
      obtain ⟨b, hb, rfl⟩ := sp_isB_n hc g
      rw [nI_clamp (by omega)]
      exact pm_liesL hm h hc (by omega)
    · rw [zi_f g2, if_neg (fun q => g2 q.2)]
  · rw [zi_f g, if_neg (fun q => g q.1)]
def sp_joinable (r : sR) (x i : Int32) : Int32 := if sp_isP r x ∧ 0 ≤ i then sp_pick (fun q => ¬ q = x.toNatClampNeg ∧ sp_why r x.toNatClampNeg q = 0) i (nP r) else -1
theorem pm_joinable (hm : P m = some (true, .inr (4, sp_mo A I))) (h : P (A 0) = some (true, .inl (.int, 1175, .inl r))) (hc : sp_C r) (hd : sp_D r) {x i : Int32} : wp_X4_joinable post m x i P = post (sp_joinable r x i) := by
  have b5 := hc.2.2.2.2.2.2.1
  simp only [wp_X4_joinable, mo_o hm, pm_isP hm h, zi_b0, sp_joinable]
  by_cases g : sp_isP r x
  · rw [zi_t g]
    by_cases g2 : 0 ≤ i
    · rw [zi_t g2, if_pos ⟨g, g2⟩]
      obtain ⟨p, hp, rfl⟩ := sp_isP_n hc g
      rw [nI_clamp (by omega)]
      exact pm_joinableL hm h hc hd hp
    · rw [zi_f g2, if_neg (fun q => g2 q.2)]
  · rw [zi_f g, if_neg (fun q => g q.1)]
def sp_shOn (r : sR) (x y d : Int32) : Int32 := if sp_isP r x ∧ sp_isO r y ∧ (0 ≤ d ∧ d ≤ 9999) then (if 0 ≤ sp_dn r x d (nD r) then sp_d r (sp_dn r x d (nD r)).toNatClampNeg (2 + y.toNatClampNeg) else -2) else -1
theorem sp_dn_n (r : sR) (p d : Int32) (n : Nat) (hn : n < 2147483648) (h : 0 ≤ sp_dn r p d n) : ∃ k, k < n ∧ sp_dn r p d n = nI k := by
  induction n with
  | zero => exact absurd h (by unfold sp_dn; decide)
  | succ n ih =>
    unfold sp_dn at h ⊢
    by_cases c : sp_d r n 0 = p ∧ sp_d r n 1 ≤ d
    · rw [if_pos c]; exact ⟨n, by omega, rfl⟩
    · rw [if_neg c] at h ⊢
      obtain ⟨k, hk, e⟩ := ih (by omega) h
      exact ⟨k, by omega, e⟩
theorem pm_shOn (hm : P m = some (true, .inr (4, sp_mo A I))) (h : P (A 0) = some (true, .inl (.int, 1175, .inl r))) (hc : sp_C r) {x y d : Int32} : wp_X4_shareOn post m x y d P = post (sp_shOn r x y d) := by
  have b4 := hc.2.2.2.2.2.1
  have b6 := hc.2.2.2.2.2.2.2.1
  simp only [wp_X4_shareOn, mo_o hm, pm_isP hm h, pm_isO hm h, pm_in, zi_b0, sp_shOn]
  by_cases g : sp_isP r x
  · rw [zi_t g]
    by_cases g2 : sp_isO r y
    · rw [zi_t g2]
      by_cases g3 : 0 ≤ d ∧ d ≤ 9999
      · rw [zi_t g3, if_pos ⟨g, g2, g3⟩]
        obtain ⟨q, hq, rfl⟩ := sp_isO_n hc g2
        rw [nI_clamp (by omega), mo_0 hm, pm_deedOn h hc]
        by_cases g4 : 0 ≤ sp_dn r x d (nD r)
        · rw [zi_t g4, if_pos g4]
          obtain ⟨k, hk, e⟩ := sp_dn_n r x d (nD r) (by omega) g4
          have e2 : (2 : Int32) + nI q = nI (2 + q) := nI_add 2 q
          rw [e, nI_clamp (by omega)]
          simp (disch := omega) only [mo_0 hm, wp_X4_deedAt, e2, ix_d, nI_add, rd_i h]
        · rw [zi_f g4, if_neg g4]
      · rw [zi_f g3, if_neg (fun q => g3 q.2.2)]
    · rw [zi_f g2, if_neg (fun q => g2 q.2.1)]
  · rw [zi_f g, if_neg (fun q => g q.1)]
def sp_own1 (r : sR) (q : Nat) (w : Int32) (p : Nat) : Int32 := if sp_lv r p then (if w = 1 then sp_area r p * sp_share r p q else if sp_share r p q ≤ 0 then 0 else if w = 0 ∨ sp_share r p q = 12 then 1 else 0) else 0
def sp_own (r : sR) (q : Nat) (w : Int32) : Int32 := sp_s (sp_own1 r q w) (nP r)
theorem pm_own (hm : P m = some (true, .inr (4, sp_mo A I))) (h : P (A 0) = some (true, .inl (.int, 1175, .inl r))) (hc : sp_C r) (hd : sp_D r) {q : Nat} {w : Int32} (hq : q < 6) : wp_X4_ownedOf post m (nI q) w P = post (sp_own r q w) := by
  have hc' := hc
  obtain ⟨c4, c5, c6, c7, -, b4, b5, b6, b7, -⟩ := hc
  unfold wp_X4_ownedOf
  refine (ql2 (wb_X4_ownedOf_5 post (some m) (nI q) w P) (wl_X4_ownedOf_5 post (some m) (nI q) w P) (fun _ _ => rfl) (fun _ _ _ => rfl) (nP r) (sp_s (sp_own1 r q w)) nI (fun _ => post (sp_own r q w)) (fun _ => False) (fun _ => False) ?_ ?_ ?_)
  · intro k hk K
    simp (disch := omega) only [wb_X4_ownedOf_5, wj_X4_ownedOf_85, wj_X4_ownedOf_82, mo_o hm, mo_0 hm, mo_1 hm, mo_2 hm, mo_3 hm, mo_4 hm, mo_5 hm, mo_7 hm, mo_16 hm, mo_17 hm, mo_6 hm, mo_8 hm, mo_9 hm, mo_10 hm, mo_11 hm, mo_12 hm, mo_13 hm, mo_14 hm, mo_15 hm, mo_18 hm, rd_i h, rl0 h, rl1 h, rl2 h, rl3 h, rl4 h, rl5 h, rl6 h, rl7 h, rl1054 h, ix_p, ix_d, ix_b, ia0, ia1, ia2, ia3, ia4, ia5, ia6, ia7, ia8, ia9, ia10, ia11, ia12, zt_k, Nat.add_zero, c5, sp_nn, pm_isLive h, pm_area h, pm_shareOf h hc' hd hk, zi_b0, zi_f not_false, sp_s, sp_own1]
    by_cases g : sp_lv r k
    · rw [zi_t g, if_pos g]
      by_cases g1 : w = 1
      · rw [zi_t g1, if_pos g1]
      · rw [zi_f g1, if_neg g1]
        by_cases g2 : sp_share r k q ≤ 0
        · rw [zi_t g2, if_pos g2, Int32.add_zero]
        · rw [zi_f g2, if_neg g2]
          by_cases g3 : w = 0
          · rw [zi_t g3, if_pos (Or.inl g3)]
          · rw [zi_f g3]
            by_cases g4 : sp_share r k q = 12
            · rw [zi_t g4, if_pos (Or.inr g4)]
            · rw [zi_f g4, if_neg (fun e => e.elim g3 g4), Int32.add_zero]
    · rw [zi_f g, if_neg g, Int32.add_zero]
  · exact fun k _ => (zi_f not_false).symm
  · intro K
    unfold wb_X4_ownedOf_5
    rw [mo_0 hm, rl5 h, c5]
    exact sp_nk _
def sp_owned (r : sR) (x w : Int32) : Int32 := if sp_isO r x ∧ (0 ≤ w ∧ w ≤ 3) then (if w = 3 then sp_amt r x else sp_own r x.toNatClampNeg w) else -1
theorem pm_owned (hm : P m = some (true, .inr (4, sp_mo A I))) (h : P (A 0) = some (true, .inl (.int, 1175, .inl r))) (hc : sp_C r) (hd : sp_D r) {x w : Int32} : wp_X4_owned post m x w P = post (sp_owned r x w) := by
  have b4 := hc.2.2.2.2.2.1
  simp only [wp_X4_owned, mo_o hm, pm_isO hm h, pm_in, zi_b0, sp_owned]
  by_cases g : sp_isO r x
  · rw [zi_t g]
    by_cases g2 : 0 ≤ w ∧ w ≤ 3
    · rw [zi_t g2, if_pos ⟨g, g2⟩]
      obtain ⟨q, hq, rfl⟩ := sp_isO_n hc g
      rw [nI_clamp (by omega), pm_amt hm h hc, pm_own hm h hc hd (by omega), zi_ite]
    · rw [zi_f g2, if_neg (fun q => g2 q.2)]
  · rw [zi_f g, if_neg (fun q => g q.1)]
def sp_log (r : sR) (i w : Int32) : Int32 := if i < 0 ∨ ¬ (0 ≤ w ∧ w ≤ 2) then -1 else if r 1054 ≤ i then -2 else sp_e r i.toNatClampNeg w.toNatClampNeg
theorem pm_log (hm : P m = some (true, .inr (4, sp_mo A I))) (h : P (A 0) = some (true, .inl (.int, 1175, .inl r))) (hc : sp_C r) {i w : Int32} : wp_X4_log post m i w P = post (sp_log r i w) := by
  obtain ⟨-, -, -, -, c8, -, -, -, -, b8⟩ := hc
  simp only [wp_X4_log, pm_in, zi_b0, sp_log]
  by_cases g : i < 0
  · rw [zi_t g, if_pos (Or.inl g)]
  · rw [zi_f g]
    by_cases g2 : 0 ≤ w ∧ w ≤ 2
    · rw [zi_t g2, if_neg (fun e => e.elim g (fun q => q g2)), mo_0 hm, rl1054 h]
      by_cases g3 : r 1054 ≤ i
      · rw [zi_t g3, if_pos g3]
      · rw [zi_f g3, if_neg g3]
        obtain ⟨j, hj, rfl⟩ := nI_of g
        obtain ⟨k, hk, rfl⟩ := nI_of2 (n := 2) rfl (by rw [Int32.not_lt]; exact g2.1) g2.2
        rw [c8, nI_leI (by omega) hj] at g3
        have e : (1055 : Int32) + (3 : Int32) * nI j + nI k = nI (1055 + 3 * j + k) := by rw [show (3 : Int32) = nI 3 from rfl, nI_mulc, show (1055 : Int32) = nI 1055 from rfl, nI_add, nI_add]
        rw [mo_0 hm, e, rd_i h _ (by omega) (by omega), nI_clamp hj, nI_clamp (by omega)]
    · rw [zi_f g2, if_pos (Or.inr g2)]
abbrev sp_made (r : sR) (p q : Nat) : Prop := sp_p r q 8 = nI p ∨ sp_p r q 9 = nI p
theorem pm_made (hm : P m = some (true, .inr (4, sp_mo A I))) (h : P (A 0) = some (true, .inl (.int, 1175, .inl r))) {p q : Nat} (hp : p < 40) (hq : q < 40) : wp_X4_isMadeOf post m (nI q) (nI p) P = post (if sp_made r p q then 1 else 0) := by
  simp (disch := omega) only [wp_X4_isMadeOf, wj_X4_isMadeOf_30, wp_X4_partAt, mo_o hm, mo_0 hm, mo_1 hm, mo_2 hm, mo_3 hm, mo_4 hm, mo_5 hm, mo_7 hm, mo_16 hm, mo_17 hm, mo_6 hm, mo_8 hm, mo_9 hm, mo_10 hm, mo_11 hm, mo_12 hm, mo_13 hm, mo_14 hm, mo_15 hm, mo_18 hm, rd_i h, rl0 h, rl1 h, rl2 h, rl3 h, rl4 h, rl5 h, rl6 h, rl7 h, rl1054 h, ix_p, ix_d, ix_b, ia0, ia1, ia2, ia3, ia4, ia5, ia6, ia7, ia8, ia9, ia10, ia11, ia12, zt_k, Nat.add_zero]
  simp only [← zi_ite, zi_or, sp_made, sp_p, sp_d, sp_b, sp_e, sp_lv, sp_has, sp_at, sp_nbr, sp_obl, sp_path, sp_end, sp_hp, Nat.add_zero]
theorem ql_fst (body : (Int32 → Prop) → Int32 → Prop) (wl : Nat → Int32 → Prop) (h0 : ∀ a, wl 0 a = False) (hs : ∀ n a, wl (n + 1) a = body (wl n) a) (c : Nat → Prop) [DecidablePred c] (n : Nat) (post : Int32 → Prop)
    (hb : ∀ k, k < n → ∀ K, body K (nI k) = zi (c k) (post (nI k)) (K (nI (k + 1)))) (hm : ∀ K, body K (nI n) = post (-2)) : (∃ j, wl j (nI 0)) = post (sp_fst c n) := by
  have e := ql1 body wl h0 hs n nI (fun k => post (sp_fs c n (n - k))) c (fun k => post (nI k)) hb (fun k hk => sp_fs_s c hk) (fun K => by
    rw [hm, Nat.sub_self]
    rfl)
  rw [Nat.sub_zero] at e
  exact e
theorem pm_ranked (hm : P m = some (true, .inr (4, sp_mo A I))) (h : P (A 0) = some (true, .inl (.int, 1175, .inl r))) (hc : sp_C r) {p : Nat} {i : Int32} (hp : p < 40) : wp_X4_ranked post m (nI p) i P = post (sp_fst (fun b => sp_on r b p ∧ sp_rank r b p = i) (nB r)) := by
  have hc' := hc
  obtain ⟨c4, c5, c6, c7, -, b4, b5, b6, b7, -⟩ := hc
  unfold wp_X4_ranked
  refine ql_fst (wb_X4_ranked_2 post (some m) (nI p) i P) (wl_X4_ranked_2 post (some m) (nI p) i P) (fun _ => rfl) (fun _ _ => rfl) (fun b => sp_on r b p ∧ sp_rank r b p = i) (nB r) post ?_ ?_
  · intro k hk K
    simp (disch := omega) only [wb_X4_ranked_2, wj_X4_ranked_40, mo_o hm, mo_0 hm, mo_1 hm, mo_2 hm, mo_3 hm, mo_4 hm, mo_5 hm, mo_7 hm, mo_16 hm, mo_17 hm, mo_6 hm, mo_8 hm, mo_9 hm, mo_10 hm, mo_11 hm, mo_12 hm, mo_13 hm, mo_14 hm, mo_15 hm, mo_18 hm, rd_i h, rl0 h, rl1 h, rl2 h, rl3 h, rl4 h, rl5 h, rl6 h, rl7 h, rl1054 h, ix_p, ix_d, ix_b, ia0, ia1, ia2, ia3, ia4, ia5, ia6, ia7, ia8, ia9, ia10, ia11, ia12, zt_k, Nat.add_zero, c7, sp_nn, pm_on h, pm_rankOf h hc', zi_b0]
    exact zi_and.symm
  · intro K
    unfold wb_X4_ranked_2
    rw [mo_0 hm, rl7 h, c7]
    exact sp_nk _
def sp_burOf (r : sR) (x i : Int32) : Int32 := if sp_isP r x ∧ ¬ i < 0 then sp_fst (fun b => sp_on r b x.toNatClampNeg ∧ sp_rank r b x.toNatClampNeg = i) (nB r) else -1
theorem pm_burOf (hm : P m = some (true, .inr (4, sp_mo A I))) (h : P (A 0) = some (true, .inl (.int, 1175, .inl r))) (hc : sp_C r) {x i : Int32} : wp_X4_burdenOf post m x i P = post (sp_burOf r x i) := by
  have b5 := hc.2.2.2.2.2.2.1
  simp only [wp_X4_burdenOf, mo_o hm, pm_isP hm h, zi_b0, sp_burOf]
  by_cases g : sp_isP r x
  · rw [zi_t g]
    by_cases g2 : i < 0
    · rw [zi_t g2, if_neg (fun q => q.2 g2)]
    · rw [zi_f g2, if_pos ⟨g, g2⟩]
      obtain ⟨p, hp, rfl⟩ := sp_isP_n hc g
      rw [nI_clamp (by omega)]
      exact pm_ranked hm h hc (by omega)
  · rw [zi_f g, if_neg (fun q => g q.1)]
def sp_sold (r : sR) (x y z : Int32) : Int32 := if sp_isP r x ∧ (0 ≤ y ∧ y ≤ 99999) ∧ sp_isB r z then (if sp_path r z.toNatClampNeg ∨ ¬ sp_on r z.toNatClampNeg x.toNatClampNeg then -2 else if 0 ≤ y - sp_ahead r x.toNatClampNeg (sp_b r z.toNatClampNeg 3) then (if sp_b r z.toNatClampNeg 2 ≤ y - sp_ahead r x.toNatClampNeg (sp_b r z.toNatClampNeg 3) then sp_b r z.toNatClampNeg 2 else y - sp_ahead r x.toNatClampNeg (sp_b r z.toNatClampNeg 3)) else 0) else -1
theorem pm_sold (hm : P m = some (true, .inr (4, sp_mo A I))) (h : P (A 0) = some (true, .inl (.int, 1175, .inl r))) (hc : sp_C r) {x y z : Int32} : wp_X4_ifSold post m x y z P = post (sp_sold r x y z) := by
  have b5 := hc.2.2.2.2.2.2.1
  have b7 := hc.2.2.2.2.2.2.2.2.1
  simp only [wp_X4_ifSold, mo_o hm, pm_isP hm h, pm_isB hm h, pm_in, zi_b0, sp_sold]
  by_cases g : sp_isP r x
  · rw [zi_t g]
    by_cases g2 : 0 ≤ y ∧ y ≤ 99999
    · rw [zi_t g2]
      by_cases g3 : sp_isB r z
      · rw [zi_t g3, if_pos ⟨g, g2, g3⟩]
        obtain ⟨p, hp, rfl⟩ := sp_isP_n hc g
        obtain ⟨b, hb, rfl⟩ := sp_isB_n hc g3
        rw [nI_clamp (by omega), nI_clamp (by omega)]
        simp only [← zi_ite, zi_or, zi_not]
        simp (disch := omega) only [mo_0 hm, pm_on h, pm_path h, pm_ahead h hc, zi_b0, wp_X4_burdenAt, ix_b, ia2, ia3, rd_i h, zt_k]
      · rw [zi_f g3, if_neg (fun q => g3 q.2.2)]
    · rw [zi_f g2, if_neg (fun q => g2 q.2.1)]
  · rw [zi_f g, if_neg (fun q => g q.1)]
theorem pm_atq (hm : P m = some (true, .inr (4, sp_mo A I))) (h : P (A 0) = some (true, .inl (.int, 1175, .inl r))) (hc : sp_C r) {x y : Int32} {k : Nat} (hk : k < 40) (h1 : sp_isS r x y → sp_at r x y k) (h2 : sp_isS r x y → ∀ j, j < k → ¬ sp_at r x y j) : wp_X4_at post m x y P = post (if sp_isS r x y then nI k else -1) := by
  simp only [wp_X4_at, mo_o hm, pm_isS hm h, zi_b0]
  by_cases g : sp_isS r x y
  · rw [zi_t g, if_pos g, mo_0 hm, pm_liveAt h hk (h1 g) (h2 g)]
  · rw [zi_f g, if_neg g]
end PM2
