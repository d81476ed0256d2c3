/-! THE PURE PART 4: the reference's object and its queries (printed by gen/mkpm.py) -/
def sp_mo (A : Nat → Nat) (I : Nat → Int32) : List Value := [va_rf (some (A 0)), va_rf (some (A 1)), va_rf (some (A 2)), va_rf (some (A 3)), va_rf (some (A 4)), va_rf (some (A 5)), .int (I 6), va_rf (some (A 7)), .int (I 8), .int (I 9), .int (I 10), .int (I 11), .int (I 12), .int (I 13), .int (I 14), .int (I 15), va_rf (some (A 16)), va_rf (some (A 17)), .int (I 18)]
section PMO
variable {P : zk_H} {m : Nat} {A : Nat → Nat} {I : Nat → Int32}
theorem mo_o (h : P m = some (true, .inr (4, sp_mo A I))) {K : Nat → Prop} : zo P (some m) [4] K = K m := ro_e h (by decide)
theorem mo_0 (h : P m = some (true, .inr (4, sp_mo A I))) {K : Option Nat → Prop} : zf_r P (some m) [4] 0 K = K (some (A 0)) := rf_r h (by decide) rfl
theorem mo_1 (h : P m = some (true, .inr (4, sp_mo A I))) {K : Option Nat → Prop} : zf_r P (some m) [4] 1 K = K (some (A 1)) := rf_r h (by decide) rfl
theorem mo_2 (h : P m = some (true, .inr (4, sp_mo A I))) {K : Option Nat → Prop} : zf_r P (some m) [4] 2 K = K (some (A 2)) := rf_r h (by decide) rfl
theorem mo_3 (h : P m = some (true, .inr (4, sp_mo A I))) {K : Option Nat → Prop} : zf_r P (some m) [4] 3 K = K (some (A 3)) := rf_r h (by decide) rfl
theorem mo_4 (h : P m = some (true, .inr (4, sp_mo A I))) {K : Option Nat → Prop} : zf_r P (some m) [4] 4 K = K (some (A 4)) := rf_r h (by decide) rfl
theorem mo_5 (h : P m = some (true, .inr (4, sp_mo A I))) {K : Option Nat → Prop} : zf_r P (some m) [4] 5 K = K (some (A 5)) := rf_r h (by decide) rfl
theorem mo_7 (h : P m = some (true, .inr (4, sp_mo A I))) {K : Option Nat → Prop} : zf_r P (some m) [4] 7 K = K (some (A 7)) := rf_r h (by decide) rfl
theorem mo_16 (h : P m = some (true, .inr (4, sp_mo A I))) {K : Option Nat → Prop} : zf_r P (some m) [4] 16 K = K (some (A 16)) := rf_r h (by decide) rfl
theorem mo_17 (h : P m = some (true, .inr (4, sp_mo A I))) {K : Option Nat → Prop} : zf_r P (some m) [4] 17 K = K (some (A 17)) := rf_r h (by decide) rfl
theorem mo_6 (h : P m = some (true, .inr (4, sp_mo A I))) {K : Int32 → Prop} : zf_i P (some m) [4] 6 K = K (I 6) := rf_i h (by decide) rfl
theorem mw_6 (h : P m = some (true, .inr (4, sp_mo A I))) {x : Int32} {K : zk_H → Prop} : zp_v P (some m) [4] 6 (.int x) K = K (zk_u P m (.inr (4, sp_mo A (upd I 6 x)))) := rp_v h (by decide) (Nat.le_of_ble_eq_true rfl)
theorem mo_8 (h : P m = some (true, .inr (4, sp_mo A I))) {K : Int32 → Prop} : zf_i P (some m) [4] 8 K = K (I 8) := rf_i h (by decide) rfl
theorem mw_8 (h : P m = some (true, .inr (4, sp_mo A I))) {x : Int32} {K : zk_H → Prop} : zp_v P (some m) [4] 8 (.int x) K = K (zk_u P m (.inr (4, sp_mo A (upd I 8 x)))) := rp_v h (by decide) (Nat.le_of_ble_eq_true rfl)
theorem mo_9 (h : P m = some (true, .inr (4, sp_mo A I))) {K : Int32 → Prop} : zf_i P (some m) [4] 9 K = K (I 9) := rf_i h (by decide) rfl
theorem mw_9 (h : P m = some (true, .inr (4, sp_mo A I))) {x : Int32} {K : zk_H → Prop} : zp_v P (some m) [4] 9 (.int x) K = K (zk_u P m (.inr (4, sp_mo A (upd I 9 x)))) := rp_v h (by decide) (Nat.le_of_ble_eq_true rfl)
theorem mo_10 (h : P m = some (true, .inr (4, sp_mo A I))) {K : Int32 → Prop} : zf_i P (some m) [4] 10 K = K (I 10) := rf_i h (by decide) rfl
theorem mw_10 (h : P m = some (true, .inr (4, sp_mo A I))) {x : Int32} {K : zk_H → Prop} : zp_v P (some m) [4] 10 (.int x) K = K (zk_u P m (.inr (4, sp_mo A (upd I 10 x)))) := rp_v h (by decide) (Nat.le_of_ble_eq_true rfl)
theorem mo_11 (h : P m = some (true, .inr (4, sp_mo A I))) {K : Int32 → Prop} : zf_i P (some m) [4] 11 K = K (I 11) := rf_i h (by decide) rfl
theorem mw_11 (h : P m = some (true, .inr (4, sp_mo A I))) {x : Int32} {K : zk_H → Prop} : zp_v P (some m) [4] 11 (.int x) K = K (zk_u P m (.inr (4, sp_mo A (upd I 11 x)))) := rp_v h (by decide) (Nat.le_of_ble_eq_true rfl)
theorem mo_12 (h : P m = some (true, .inr (4, sp_mo A I))) {K : Int32 → Prop} : zf_i P (some m) [4] 12 K = K (I 12) := rf_i h (by decide) rfl
theorem mw_12 (h : P m = some (true, .inr (4, sp_mo A I))) {x : Int32} {K : zk_H → Prop} : zp_v P (some m) [4] 12 (.int x) K = K (zk_u P m (.inr (4, sp_mo A (upd I 12 x)))) := rp_v h (by decide) (Nat.le_of_ble_eq_true rfl)
theorem mo_13 (h : P m = some (true, .inr (4, sp_mo A I))) {K : Int32 → Prop} : zf_i P (some m) [4] 13 K = K (I 13) := rf_i h (by decide) rfl
theorem mw_13 (h : P m = some (true, .inr (4, sp_mo A I))) {x : Int32} {K : zk_H → Prop} : zp_v P (some m) [4] 13 (.int x) K = K (zk_u P m (.inr (4, sp_mo A (upd I 13 x)))) := rp_v h (by decide) (Nat.le_of_ble_eq_true rfl)
theorem mo_14 (h : P m = some (true, .inr (4, sp_mo A I))) {K : Int32 → Prop} : zf_i P (some m) [4] 14 K = K (I 14) := rf_i h (by decide) rfl
theorem mw_14 (h : P m = some (true, .inr (4, sp_mo A I))) {x : Int32} {K : zk_H → Prop} : zp_v P (some m) [4] 14 (.int x) K = K (zk_u P m (.inr (4, sp_mo A (upd I 14 x)))) := rp_v h (by decide) (Nat.le_of_ble_eq_true rfl)
theorem mo_15 (h : P m = some (true, .inr (4, sp_mo A I))) {K : Int32 → Prop} : zf_i P (some m) [4] 15 K = K (I 15) := rf_i h (by decide) rfl
theorem mw_15 (h : P m = some (true, .inr (4, sp_mo A I))) {x : Int32} {K : zk_H → Prop} : zp_v P (some m) [4] 15 (.int x) K = K (zk_u P m (.inr (4, sp_mo A (upd I 15 x)))) := rp_v h (by decide) (Nat.le_of_ble_eq_true rfl)
theorem mo_18 (h : P m = some (true, .inr (4, sp_mo A I))) {K : Int32 → Prop} : zf_i P (some m) [4] 18 K = K (I 18) := rf_i h (by decide) rfl
theorem mw_18 (h : P m = some (true, .inr (4, sp_mo A I))) {x : Int32} {K : zk_H → Prop} : zp_v P (some m) [4] 18 (.int x) K = K (zk_u P m (.inr (4, sp_mo A (upd I 18 x)))) := rp_v h (by decide) (Nat.le_of_ble_eq_true rfl)
end PMO
def sp_liveN (r : sR) : Int32 := sp_s (fun p => if sp_lv r p then 1 else 0) (nP r)
def sp_barN (r : sR) : Int32 := sp_s (fun p => if sp_lv r p ∧ sp_p r p 7 = 1 then 1 else 0) (nP r)
def sp_openN (r : sR) : Int32 := sp_s (fun b => if sp_end r b then 0 else 1) (nB r)
def sp_amt (r : sR) (o : Int32) : Int32 := sp_s (fun b => if ¬ sp_path r b ∧ (o < 0 ∨ sp_b r b 1 = o) then sp_b r b 2 else 0) (nB r)
def sp_nbrs (r : sR) (p : Nat) : Int32 := sp_s (fun q => if sp_nbr r p q then 1 else 0) (nP r)
def sp_pairs (r : sR) : Int32 := sp_s (fun p => if sp_lv r p then sp_nbrs r p else 0) (nP r)
def sp_burs (r : sR) (p : Nat) : Int32 := sp_s (fun b => if sp_on r b p then 1 else 0) (nB r)
def sp_shrs (r : sR) (p : Nat) : Int32 := sp_s (fun q => if sp_share r p q ≤ 0 then 0 else 1) (nO r)
section PM2
variable {P : zk_H} {m : Nat} {A : Nat → Nat} {I : Nat → Int32} {r : sR} {post : Int32 → Prop}
theorem pm_liveN (hm : P m = some (true, .inr (4, sp_mo A I))) (h : P (A 0) = some (true, .inl (.int, 1175, .inl r))) (hc : sp_C r)  : wp_X4_liveMany post m  P = post (sp_liveN r) := by
  have hc' := hc
  obtain ⟨c4, c5, c6, c7, -, b4, b5, b6, b7, -⟩ := hc
  unfold wp_X4_liveMany
  refine (ql2 (wb_X4_liveMany_4 post (some m)  P) (wl_X4_liveMany_4 post (some m)  P) (fun _ _ => rfl) (fun _ _ _ => rfl) (nP r) (sp_s (fun p => if sp_lv r p then 1 else 0)) nI (fun _ => post (sp_liveN r)) (fun _ => False) (fun _ => False) ?_ ?_ ?_)
  · intro k hk K
    simp (disch := omega) only [wb_X4_liveMany_4, wj_X4_liveMany_28, mo_o hm, mo_0 hm, mo_1 hm, mo_2 hm, mo_3 hm, mo_4 hm, mo_5 hm, mo_7 hm, mo_16 hm, mo_17 hm, mo_6 hm, mo_8 hm, mo_9 hm, mo_10 hm, mo_11 hm, mo_12 hm, mo_13 hm, mo_14 hm, mo_15 hm, mo_18 hm, rd_i h, rl0 h, rl1 h, rl2 h, rl3 h, rl4 h, rl5 h, rl6 h, rl7 h, rl1054 h, ix_p, ix_d, ix_b, ia0, ia1, ia2, ia3, ia4, ia5, ia6, ia7, ia8, ia9, ia10, ia11, ia12, zt_k, Nat.add_zero, c5, sp_nn, pm_isLive h, zi_b0, zi_f not_false, sp_s, wp_X4_burdenAt, wp_X4_partAt]
    simp only [zi_if, sp_p, sp_d, sp_b, sp_e, sp_lv, sp_has, sp_at, sp_nbr, sp_obl, sp_path, sp_end, sp_hp, Nat.add_zero]
    grind [Int32.add_zero]
  · exact fun k _ => (zi_f not_false).symm
  · intro K
    simp (disch := omega) only [wb_X4_liveMany_4, mo_o hm, mo_0 hm, mo_1 hm, mo_2 hm, mo_3 hm, mo_4 hm, mo_5 hm, mo_7 hm, mo_16 hm, mo_17 hm, mo_6 hm, mo_8 hm, mo_9 hm, mo_10 hm, mo_11 hm, mo_12 hm, mo_13 hm, mo_14 hm, mo_15 hm, mo_18 hm, rd_i h, rl0 h, rl1 h, rl2 h, rl3 h, rl4 h, rl5 h, rl6 h, rl7 h, rl1054 h, ix_p, ix_d, ix_b, ia0, ia1, ia2, ia3, ia4, ia5, ia6, ia7, ia8, ia9, ia10, ia11, ia12, zt_k, Nat.add_zero, c5, sp_nk, sp_liveN]
theorem pm_barN (hm : P m = some (true, .inr (4, sp_mo A I))) (h : P (A 0) = some (true, .inl (.int, 1175, .inl r))) (hc : sp_C r)  : wp_X4_barredMany post m  P = post (sp_barN r) := by
  have hc' := hc
  obtain ⟨c4, c5, c6, c7, -, b4, b5, b6, b7, -⟩ := hc
  unfold wp_X4_barredMany
  refine (ql2 (wb_X4_barredMany_4 post (some m)  P) (wl_X4_barredMany_4 post (some m)  P) (fun _ _ => rfl) (fun _ _ _ => rfl) (nP r) (sp_s (fun p => if sp_lv r p ∧ sp_p r p 7 = 1 then 1 else 0)) nI (fun _ => post (sp_barN r)) (fun _ => False) (fun _ => False) ?_ ?_ ?_)
  · intro k hk K
    simp (disch := omega) only [wb_X4_barredMany_4, wj_X4_barredMany_39, mo_o hm, mo_0 hm, mo_1 hm, mo_2 hm, mo_3 hm, mo_4 hm, mo_5 hm, mo_7 hm, mo_16 hm, mo_17 hm, mo_6 hm, mo_8 hm, mo_9 hm, mo_10 hm, mo_11 hm, mo_12 hm, mo_13 hm, mo_14 hm, mo_15 hm, mo_18 hm, rd_i h, rl0 h, rl1 h, rl2 h, rl3 h, rl4 h, rl5 h, rl6 h, rl7 h, rl1054 h, ix_p, ix_d, ix_b, ia0, ia1, ia2, ia3, ia4, ia5, ia6, ia7, ia8, ia9, ia10, ia11, ia12, zt_k, Nat.add_zero, c5, sp_nn, pm_isLive h, pm_isBarred h, zi_b0, zi_f not_false, sp_s, wp_X4_burdenAt, wp_X4_partAt]
    simp only [zi_if, sp_p, sp_d, sp_b, sp_e, sp_lv, sp_has, sp_at, sp_nbr, sp_obl, sp_path, sp_end, sp_hp, Nat.add_zero]
    grind [Int32.add_zero]
  · exact fun k _ => (zi_f not_false).symm
  · intro K
    simp (disch := omega) only [wb_X4_barredMany_4, mo_o hm, mo_0 hm, mo_1 hm, mo_2 hm, mo_3 hm, mo_4 hm, mo_5 hm, mo_7 hm, mo_16 hm, mo_17 hm, mo_6 hm, mo_8 hm, mo_9 hm, mo_10 hm, mo_11 hm, mo_12 hm, mo_13 hm, mo_14 hm, mo_15 hm, mo_18 hm, rd_i h, rl0 h, rl1 h, rl2 h, rl3 h, rl4 h, rl5 h, rl6 h, rl7 h, rl1054 h, ix_p, ix_d, ix_b, ia0, ia1, ia2, ia3, ia4, ia5, ia6, ia7, ia8, ia9, ia10, ia11, ia12, zt_k, Nat.add_zero, c5, sp_nk, sp_barN]
theorem pm_openN (hm : P m = some (true, .inr (4, sp_mo A I))) (h : P (A 0) = some (true, .inl (.int, 1175, .inl r))) (hc : sp_C r)  : wp_X4_openBurdens post m  P = post (sp_openN r) := by
  have hc' := hc
  obtain ⟨c4, c5, c6, c7, -, b4, b5, b6, b7, -⟩ := hc
  unfold wp_X4_openBurdens
  refine (ql2 (wb_X4_openBurdens_4 post (some m)  P) (wl_X4_openBurdens_4 post (some m)  P) (fun _ _ => rfl) (fun _ _ _ => rfl) (nB r) (sp_s (fun b => if sp_end r b then 0 else 1)) nI (fun _ => post (sp_openN r)) (fun _ => False) (fun _ => False) ?_ ?_ ?_)
  · intro k hk K
    simp (disch := omega) only [wb_X4_openBurdens_4, wj_X4_openBurdens_29, mo_o hm, mo_0 hm, mo_1 hm, mo_2 hm, mo_3 hm, mo_4 hm, mo_5 hm, mo_7 hm, mo_16 hm, mo_17 hm, mo_6 hm, mo_8 hm, mo_9 hm, mo_10 hm, mo_11 hm, mo_12 hm, mo_13 hm, mo_14 hm, mo_15 hm, mo_18 hm, rd_i h, rl0 h, rl1 h, rl2 h, rl3 h, rl4 h, rl5 h, rl6 h, rl7 h, rl1054 h, ix_p, ix_d, ix_b, ia0, ia1, ia2, ia3, ia4, ia5, ia6, ia7, ia8, ia9, ia10, ia11, ia12, zt_k, Nat.add_zero, c7, sp_nn, pm_end h, zi_b0, zi_f not_false, sp_s, wp_X4_burdenAt, wp_X4_partAt]
    simp only [zi_if, sp_p, sp_d, sp_b, sp_e, sp_lv, sp_has, sp_at, sp_nbr, sp_obl, sp_path, sp_end, sp_hp, Nat.add_zero]
    grind [Int32.add_zero]
  · exact fun k _ => (zi_f not_false).symm
  · intro K
    simp (disch := omega) only [wb_X4_openBurdens_4, mo_o hm, mo_0 hm, mo_1 hm, mo_2 hm, mo_3 hm, mo_4 hm, mo_5 hm, mo_7 hm, mo_16 hm, mo_17 hm, mo_6 hm, mo_8 hm, mo_9 hm, mo_10 hm, mo_11 hm, mo_12 hm, mo_13 hm, mo_14 hm, mo_15 hm, mo_18 hm, rd_i h, rl0 h, rl1 h, rl2 h, rl3 h, rl4 h, rl5 h, rl6 h, rl7 h, rl1054 h, ix_p, ix_d, ix_b, ia0, ia1, ia2, ia3, ia4, ia5, ia6, ia7, ia8, ia9, ia10, ia11, ia12, zt_k, Nat.add_zero, c7, sp_nk, sp_openN]
theorem pm_amt (hm : P m = some (true, .inr (4, sp_mo A I))) (h : P (A 0) = some (true, .inl (.int, 1175, .inl r))) (hc : sp_C r) {q : Int32} : wp_X4_amounts post m q P = post (sp_amt r q) := by
  have hc' := hc
  obtain ⟨c4, c5, c6, c7, -, b4, b5, b6, b7, -⟩ := hc
  unfold wp_X4_amounts
  refine (ql2 (wb_X4_amounts_4 post (some m) q P) (wl_X4_amounts_4 post (some m) q P) (fun _ _ => rfl) (fun _ _ _ => rfl) (nB r) (sp_s (fun b => if ¬ sp_path r b ∧ (q < 0 ∨ sp_b r b 1 = q) then sp_b r b 2 else 0)) nI (fun _ => post (sp_amt r q)) (fun _ => False) (fun _ => False) ?_ ?_ ?_)
  · intro k hk K
    simp (disch := omega) only [wb_X4_amounts_4, wj_X4_amounts_57, wj_X4_amounts_44, mo_o hm, mo_0 hm, mo_1 hm, mo_2 hm, mo_3 hm, mo_4 hm, mo_5 hm, mo_7 hm, mo_16 hm, mo_17 hm, mo_6 hm, mo_8 hm, mo_9 hm, mo_10 hm, mo_11 hm, mo_12 hm, mo_13 hm, mo_14 hm, mo_15 hm, mo_18 hm, rd_i h, rl0 h, rl1 h, rl2 h, rl3 h, rl4 h, rl5 h, rl6 h, rl7 h, rl1054 h, ix_p, ix_d, ix_b, ia0, ia1, ia2, ia3, ia4, ia5, ia6, ia7, ia8, ia9, ia10, ia11, ia12, zt_k, Nat.add_zero, c7, sp_nn, pm_path h, zi_b0, zi_f not_false, sp_s, wp_X4_burdenAt, wp_X4_partAt]
    simp only [zi_if, sp_p, sp_d, sp_b, sp_e, sp_lv, sp_has, sp_at, sp_nbr, sp_obl, sp_path, sp_end, sp_hp, Nat.add_zero]
    grind [Int32.add_zero]
  · exact fun k _ => (zi_f not_false).symm
  · intro K
    simp (disch := omega) only [wb_X4_amounts_4, mo_o hm, mo_0 hm, mo_1 hm, mo_2 hm, mo_3 hm, mo_4 hm, mo_5 hm, mo_7 hm, mo_16 hm, mo_17 hm, mo_6 hm, mo_8 hm, mo_9 hm, mo_10 hm, mo_11 hm, mo_12 hm, mo_13 hm, mo_14 hm, mo_15 hm, mo_18 hm, rd_i h, rl0 h, rl1 h, rl2 h, rl3 h, rl4 h, rl5 h, rl6 h, rl7 h, rl1054 h, ix_p, ix_d, ix_b, ia0, ia1, ia2, ia3, ia4, ia5, ia6, ia7, ia8, ia9, ia10, ia11, ia12, zt_k, Nat.add_zero, c7, sp_nk, sp_amt]
theorem pm_nbrs (hm : P m = some (true, .inr (4, sp_mo A I))) (h : P (A 0) = some (true, .inl (.int, 1175, .inl r))) (hc : sp_C r) {p : Nat} (hp : p < 40) : wp_X4_neighbours post m (nI p) P = post (sp_nbrs r p) := by
  have hc' := hc
  obtain ⟨c4, c5, c6, c7, -, b4, b5, b6, b7, -⟩ := hc
  unfold wp_X4_neighbours
  refine (ql2 (wb_X4_neighbours_4 post (some m) (nI p) P) (wl_X4_neighbours_4 post (some m) (nI p) P) (fun _ _ => rfl) (fun _ _ _ => rfl) (nP r) (sp_s (fun q => if sp_nbr r p q then 1 else 0)) nI (fun _ => post (sp_nbrs r p)) (fun _ => False) (fun _ => False) ?_ ?_ ?_)
  · intro k hk K
    simp (disch := omega) only [wb_X4_neighbours_4, wj_X4_neighbours_29, mo_o hm, mo_0 hm, mo_1 hm, mo_2 hm, mo_3 hm, mo_4 hm, mo_5 hm, mo_7 hm, mo_16 hm, mo_17 hm, mo_6 hm, mo_8 hm, mo_9 hm, mo_10 hm, mo_11 hm, mo_12 hm, mo_13 hm, mo_14 hm, mo_15 hm, mo_18 hm, rd_i h, rl0 h, rl1 h, rl2 h, rl3 h, rl4 h, rl5 h, rl6 h, rl7 h, rl1054 h, ix_p, ix_d, ix_b, ia0, ia1, ia2, ia3, ia4, ia5, ia6, ia7, ia8, ia9, ia10, ia11, ia12, zt_k, Nat.add_zero, c5, sp_nn, pm_nbr h, zi_b0, zi_f not_false, sp_s, wp_X4_burdenAt, wp_X4_partAt]
    simp only [zi_if, sp_p, sp_d, sp_b, sp_e, sp_lv, sp_has, sp_at, sp_nbr, sp_obl, sp_path, sp_end, sp_hp, Nat.add_zero]
    grind [Int32.add_zero]
  · exact fun k _ => (zi_f not_false).symm
  · intro K
    simp (disch := omega) only [wb_X4_neighbours_4, mo_o hm, mo_0 hm, mo_1 hm, mo_2 hm, mo_3 hm, mo_4 hm, mo_5 hm, mo_7 hm, mo_16 hm, mo_17 hm, mo_6 hm, mo_8 hm, mo_9 hm, mo_10 hm, mo_11 hm, mo_12 hm, mo_13 hm, mo_14 hm, mo_15 hm, mo_18 hm, rd_i h, rl0 h, rl1 h, rl2 h, rl3 h, rl4 h, rl5 h, rl6 h, rl7 h, rl1054 h, ix_p, ix_d, ix_b, ia0, ia1, ia2, ia3, ia4, ia5, ia6, ia7, ia8, ia9, ia10, ia11, ia12, zt_k, Nat.add_zero, c5, sp_nk, sp_nbrs]
theorem pm_burs (hm : P m = some (true, .inr (4, sp_mo A I))) (h : P (A 0) = some (true, .inl (.int, 1175, .inl r))) (hc : sp_C r) {p : Nat} (hp : p < 40) : wp_X4_burdensOn post m (nI p) P = post (sp_burs r p) := by
  have hc' := hc
  obtain ⟨c4, c5, c6, c7, -, b4, b5, b6, b7, -⟩ := hc
  unfold wp_X4_burdensOn
  refine (ql2 (wb_X4_burdensOn_4 post (some m) (nI p) P) (wl_X4_burdensOn_4 post (some m) (nI p) P) (fun _ _ => rfl) (fun _ _ _ => rfl) (nB r) (sp_s (fun b => if sp_on r b p then 1 else 0)) nI (fun _ => post (sp_burs r p)) (fun _ => False) (fun _ => False) ?_ ?_ ?_)
  · intro k hk K
    simp (disch := omega) only [wb_X4_burdensOn_4, wj_X4_burdensOn_30, mo_o hm, mo_0 hm, mo_1 hm, mo_2 hm, mo_3 hm, mo_4 hm, mo_5 hm, mo_7 hm, mo_16 hm, mo_17 hm, mo_6 hm, mo_8 hm, mo_9 hm, mo_10 hm, mo_11 hm, mo_12 hm, mo_13 hm, mo_14 hm, mo_15 hm, mo_18 hm, rd_i h, rl0 h, rl1 h, rl2 h, rl3 h, rl4 h, rl5 h, rl6 h, rl7 h, rl1054 h, ix_p, ix_d, ix_b, ia0, ia1, ia2, ia3, ia4, ia5, ia6, ia7, ia8, ia9, ia10, ia11, ia12, zt_k, Nat.add_zero, c7, sp_nn, pm_on h, zi_b0, zi_f not_false, sp_s, wp_X4_burdenAt, wp_X4_partAt]
    simp only [zi_if, sp_p, sp_d, sp_b, sp_e, sp_lv, sp_has, sp_at, sp_nbr, sp_obl, sp_path, sp_end, sp_hp, Nat.add_zero]
    grind [Int32.add_zero]
  · exact fun k _ => (zi_f not_false).symm
  · intro K
    simp (disch := omega) only [wb_X4_burdensOn_4, mo_o hm, mo_0 hm, mo_1 hm, mo_2 hm, mo_3 hm, mo_4 hm, mo_5 hm, mo_7 hm, mo_16 hm, mo_17 hm, mo_6 hm, mo_8 hm, mo_9 hm, mo_10 hm, mo_11 hm, mo_12 hm, mo_13 hm, mo_14 hm, mo_15 hm, mo_18 hm, rd_i h, rl0 h, rl1 h, rl2 h, rl3 h, rl4 h, rl5 h, rl6 h, rl7 h, rl1054 h, ix_p, ix_d, ix_b, ia0, ia1, ia2, ia3, ia4, ia5, ia6, ia7, ia8, ia9, ia10, ia11, ia12, zt_k, Nat.add_zero, c7, sp_nk, sp_burs]
theorem pm_shrs (hm : P m = some (true, .inr (4, sp_mo A I))) (h : P (A 0) = some (true, .inl (.int, 1175, .inl r))) (hc : sp_C r) (hd : sp_D r) {p : Nat} (hp : p < nP r) : wp_X4_sharers post m (nI p) P = post (sp_shrs r p) := by
  have hc' := hc
  obtain ⟨c4, c5, c6, c7, -, b4, b5, b6, b7, -⟩ := hc
  unfold wp_X4_sharers
  refine (ql2 (wb_X4_sharers_4 post (some m) (nI p) P) (wl_X4_sharers_4 post (some m) (nI p) P) (fun _ _ => rfl) (fun _ _ _ => rfl) (nO r) (sp_s (fun q => if sp_share r p q ≤ 0 then 0 else 1)) nI (fun _ => post (sp_shrs r p)) (fun _ => False) (fun _ => False) ?_ ?_ ?_)
  · intro k hk K
    simp (disch := omega) only [wb_X4_sharers_4, wj_X4_sharers_29, mo_o hm, mo_0 hm, mo_1 hm, mo_2 hm, mo_3 hm, mo_4 hm, mo_5 hm, mo_7 hm, mo_16 hm, mo_17 hm, mo_6 hm, mo_8 hm, mo_9 hm, mo_10 hm, mo_11 hm, mo_12 hm, mo_13 hm, mo_14 hm, mo_15 hm, mo_18 hm, rd_i h, rl0 h, rl1 h, rl2 h, rl3 h, rl4 h, rl5 h, rl6 h, rl7 h, rl1054 h, ix_p, ix_d, ix_b, ia0, ia1, ia2, ia3, ia4, ia5, ia6, ia7, ia8, ia9, ia10, ia11, ia12, zt_k, Nat.add_zero, c4, sp_nn, pm_shareOf h hc' hd hp, zi_b0, zi_f not_false, sp_s, wp_X4_burdenAt, wp_X4_partAt]
    simp only [zi_if, sp_p, sp_d, sp_b, sp_e, sp_lv, sp_has, sp_at, sp_nbr, sp_obl, sp_path, sp_end, sp_hp, Nat.add_zero]
    grind [Int32.add_zero]
  · exact fun k _ => (zi_f not_false).symm
  · intro K
    simp (disch := omega) only [wb_X4_sharers_4, mo_o hm, mo_0 hm, mo_1 hm, mo_2 hm, mo_3 hm, mo_4 hm, mo_5 hm, mo_7 hm, mo_16 hm, mo_17 hm, mo_6 hm, mo_8 hm, mo_9 hm, mo_10 hm, mo_11 hm, mo_12 hm, mo_13 hm, mo_14 hm, mo_15 hm, mo_18 hm, rd_i h, rl0 h, rl1 h, rl2 h, rl3 h, rl4 h, rl5 h, rl6 h, rl7 h, rl1054 h, ix_p, ix_d, ix_b, ia0, ia1, ia2, ia3, ia4, ia5, ia6, ia7, ia8, ia9, ia10, ia11, ia12, zt_k, Nat.add_zero, c4, sp_nk, sp_shrs]
theorem pm_pairs (hm : P m = some (true, .inr (4, sp_mo A I))) (h : P (A 0) = some (true, .inl (.int, 1175, .inl r))) (hc : sp_C r) : wp_X4_neighbourPairs post m P = post (sp_pairs r / 2) := by
  have hc' := hc
  obtain ⟨c4, c5, c6, c7, -, b4, b5, b6, b7, -⟩ := hc
  unfold wp_X4_neighbourPairs
  refine (ql2 (wb_X4_neighbourPairs_4 post (some m) P) (wl_X4_neighbourPairs_4 post (some m) P) (fun _ _ => rfl) (fun _ _ _ => rfl) (nP r) (sp_s (fun p => if sp_lv r p then sp_nbrs r p else 0)) nI (fun _ => post (sp_pairs r / 2)) (fun _ => False) (fun _ => False) ?_ ?_ ?_)
  · intro k hk K
    simp (disch := omega) only [wb_X4_neighbourPairs_4, wj_X4_neighbourPairs_33, mo_o hm, mo_0 hm, mo_1 hm, mo_2 hm, mo_3 hm, mo_4 hm, mo_5 hm, mo_7 hm, mo_16 hm, mo_17 hm, mo_6 hm, mo_8 hm, mo_9 hm, mo_10 hm, mo_11 hm, mo_12 hm, mo_13 hm, mo_14 hm, mo_15 hm, mo_18 hm, rd_i h, rl0 h, rl1 h, rl2 h, rl3 h, rl4 h, rl5 h, rl6 h, rl7 h, rl1054 h, ix_p, ix_d, ix_b, ia0, ia1, ia2, ia3, ia4, ia5, ia6, ia7, ia8, ia9, ia10, ia11, ia12, zt_k, Nat.add_zero, c5, sp_nn, pm_isLive h, pm_nbrs hm h hc', zi_b0, zi_f not_false, sp_s]
    simp only [zi_if, sp_p, sp_d, sp_b, sp_e, sp_lv, sp_has, sp_at, sp_nbr, sp_obl, sp_path, sp_end, sp_hp, Nat.add_zero]
    grind [Int32.add_zero]
  · exact fun k _ => (zi_f not_false).symm
  · intro K
    simp (disch := omega) only [wb_X4_neighbourPairs_4, mo_o hm, mo_0 hm, mo_1 hm, mo_2 hm, mo_3 hm, mo_4 hm, mo_5 hm, mo_7 hm, mo_16 hm, mo_17 hm, mo_6 hm, mo_8 hm, mo_9 hm, mo_10 hm, mo_11 hm, mo_12 hm, mo_13 hm, mo_14 hm, mo_15 hm, mo_18 hm, rd_i h, rl0 h, rl1 h, rl2 h, rl3 h, rl4 h, rl5 h, rl6 h, rl7 h, rl1054 h, ix_p, ix_d, ix_b, ia0, ia1, ia2, ia3, ia4, ia5, ia6, ia7, ia8, ia9, ia10, ia11, ia12, zt_k, Nat.add_zero, c5, sp_nk, sp_pairs]
end PM2
