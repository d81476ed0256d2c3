/-! THE PURE PART 3: the reference's reading methods, as equations -/
section PM1
variable {P : zk_H} {a : Nat} {t : Bool} {r : sR} {post : Int32 → Prop}
theorem pm_in {x l u : Int32} : wp_X4_in post x l u = post (if l ≤ x ∧ x ≤ u then 1 else 0) := by
  unfold wp_X4_in
  by_cases h1 : x < l
  · rw [zi_t h1, if_neg (fun h => absurd h.1 (by rw [Int32.le_iff_toInt_le]; rw [Int32.lt_iff_toInt_lt] at h1; omega))]
  · rw [zi_f h1]
    by_cases h2 : u < x
    · rw [zi_t h2, if_neg (fun h => absurd h.2 (by rw [Int32.le_iff_toInt_le]; rw [Int32.lt_iff_toInt_lt] at h2; omega))]
    · rw [zi_f h2, if_pos ⟨by rw [Int32.le_iff_toInt_le]; rw [Int32.lt_iff_toInt_lt] at h1; omega, by rw [Int32.le_iff_toInt_le]; rw [Int32.lt_iff_toInt_lt] at h2; omega⟩]
theorem pm_isLive (h : P a = some (t, .inl (.int, 1175, .inl r))) {p : Nat} (hp : p < 40) : wp_X4_isLive post (some a) (nI p) P = post (if sp_lv r p then 1 else 0) := by
  simp (disch := omega) only [wp_X4_isLive, wp_X4_partAt, rd_i h, rl0 h, rl1 h, rl2 h, rl3 h, rl4 h, rl5 h, rl6 h, rl7 h, rl1054 h, ix_p, ix_d, ix_b, ia0, ia1, ia2, ia3, ia4, ia5, ia6, ia7, ia8, ia9, ia10, ia11, ia12, zt_k, Nat.add_zero, zi_ite]
theorem pm_isBarred (h : P a = some (t, .inl (.int, 1175, .inl r))) {p : Nat} (hp : p < 40) : wp_X4_isBarred post (some a) (nI p) P = post (if sp_p r p 7 = 1 then 1 else 0) := by
  simp (disch := omega) only [wp_X4_isBarred, wp_X4_partAt, rd_i h, rl0 h, rl1 h, rl2 h, rl3 h, rl4 h, rl5 h, rl6 h, rl7 h, rl1054 h, ix_p, ix_d, ix_b, ia0, ia1, ia2, ia3, ia4, ia5, ia6, ia7, ia8, ia9, ia10, ia11, ia12, zt_k, Nat.add_zero, zi_ite]
theorem pm_area (h : P a = some (t, .inl (.int, 1175, .inl r))) {p : Nat} (hp : p < 40) : wp_X4_area post (some a) (nI p) P = post (sp_area r p) := by
  simp (disch := omega) only [wp_X4_area, wp_X4_partAt, rd_i h, rl0 h, rl1 h, rl2 h, rl3 h, rl4 h, rl5 h, rl6 h, rl7 h, rl1054 h, ix_p, ix_d, ix_b, ia0, ia1, ia2, ia3, ia4, ia5, ia6, ia7, ia8, ia9, ia10, ia11, ia12, zt_k, Nat.add_zero, sp_area]
theorem pm_worth (h : P a = some (t, .inl (.int, 1175, .inl r))) {p : Nat} (hp : p < 40) : wp_X4_worth post (some a) (nI p) P = post (sp_worth r p) := by
  simp (disch := omega) only [wp_X4_worth, pm_area h, rd_i h, rl0 h, rl1 h, rl2 h, rl3 h, rl4 h, rl5 h, rl6 h, rl7 h, rl1054 h, ix_p, ix_d, ix_b, ia0, ia1, ia2, ia3, ia4, ia5, ia6, ia7, ia8, ia9, ia10, ia11, ia12, zt_k, Nat.add_zero, sp_worth]
theorem pm_has (h : P a = some (t, .inl (.int, 1175, .inl r))) {p : Nat} {x y : Int32} (hp : p < 40) : wp_X4_hasSquare post (some a) (nI p) x y P = post (if sp_has r p x y then 1 else 0) := by
  simp (disch := omega) only [wp_X4_hasSquare, wp_X4_partAt, rd_i h, rl0 h, rl1 h, rl2 h, rl3 h, rl4 h, rl5 h, rl6 h, rl7 h, rl1054 h, ix_p, ix_d, ix_b, ia0, ia1, ia2, ia3, ia4, ia5, ia6, ia7, ia8, ia9, ia10, ia11, ia12, zt_k, Nat.add_zero, pm_in, zi_b0]
  simp only [zi_if, sp_p, sp_d, sp_b, sp_e, sp_lv, sp_has, sp_at, sp_nbr, sp_obl, sp_path, sp_end, sp_hp, Nat.add_zero]
  grind
theorem pm_com {a b c d : Int32} : wp_X4_common post a b c d = post (sp_com a b c d) := by
  unfold wp_X4_common wj_X4_common_10 wj_X4_common_30 sp_com
  by_cases h1 : a ≤ c <;> by_cases h2 : c + d ≤ a + b <;> simp only [zi_t, zi_f, h1, h2, if_true, if_false, not_false_eq_true]
theorem pm_edge (h : P a = some (t, .inl (.int, 1175, .inl r))) {p q : Nat} (hp : p < 40) (hq : q < 40) : wp_X4_edgeOf post (some a) (nI p) (nI q) P = post (sp_edge r p q) := by
  simp (disch := omega) only [wp_X4_edgeOf, wj_X4_edgeOf_77, wp_X4_partAt, rd_i h, rl0 h, rl1 h, rl2 h, rl3 h, rl4 h, rl5 h, rl6 h, rl7 h, rl1054 h, ix_p, ix_d, ix_b, ia0, ia1, ia2, ia3, ia4, ia5, ia6, ia7, ia8, ia9, ia10, ia11, ia12, zt_k, Nat.add_zero, pm_com, sp_edge, zi_if, sp_p, sp_d, sp_b, sp_e, sp_lv, sp_has, sp_at, sp_nbr, sp_obl, sp_path, sp_end, sp_hp, Nat.add_zero]
  generalize sp_com (r (14 + 10 * p)) (r (14 + 10 * p + 2)) (r (14 + 10 * q)) (r (14 + 10 * q + 2)) = A
  generalize sp_com (r (14 + 10 * p + 1)) (r (14 + 10 * p + 3)) (r (14 + 10 * q + 1)) (r (14 + 10 * q + 3)) = B
  by_cases h1 : A = 0 <;> by_cases h2 : B ≤ 0 <;> by_cases h3 : B = 0 <;> by_cases h4 : A ≤ 0 <;> simp [h1, h2, h3, h4]
theorem pm_nbr (h : P a = some (t, .inl (.int, 1175, .inl r))) {p q : Nat} (hp : p < 40) (hq : q < 40) : wp_X4_areNeighbours post (some a) (nI p) (nI q) P = post (if sp_nbr r p q then 1 else 0) := by
  simp (disch := omega) only [wp_X4_areNeighbours, pm_isLive h, pm_edge h, zi_b0, zi_neq]
  simp only [zi_if, sp_p, sp_d, sp_b, sp_e, sp_lv, sp_has, sp_at, sp_nbr, sp_obl, sp_path, sp_end, sp_hp, Nat.add_zero]
  grind
theorem pm_obl (h : P a = some (t, .inl (.int, 1175, .inl r))) {p q : Nat} (hp : p < 40) (hq : q < 40) : wp_X4_areOblong post (some a) (nI p) (nI q) P = post (if sp_obl r p q then 1 else 0) := by
  simp (disch := omega) only [wp_X4_areOblong, wj_X4_areOblong_99, wj_X4_areOblong_79, wj_X4_areOblong_78, wj_X4_areOblong_39, wj_X4_areOblong_38, wp_X4_partAt, rd_i h, rl0 h, rl1 h, rl2 h, rl3 h, rl4 h, rl5 h, rl6 h, rl7 h, rl1054 h, ix_p, ix_d, ix_b, ia0, ia1, ia2, ia3, ia4, ia5, ia6, ia7, ia8, ia9, ia10, ia11, ia12, zt_k, Nat.add_zero, pm_edge h, zi_if, sp_p, sp_d, sp_b, sp_e, sp_lv, sp_has, sp_at, sp_nbr, sp_obl, sp_path, sp_end, sp_hp, Nat.add_zero]
  generalize sp_edge r p q = E
  by_cases e : E ≤ 0 <;> by_cases e1 : r (14 + 10 * p + 1) = r (14 + 10 * q + 1) <;> by_cases e3 : r (14 + 10 * p + 3) = r (14 + 10 * q + 3) <;> by_cases e0 : r (14 + 10 * p) = r (14 + 10 * q) <;> by_cases e2 : r (14 + 10 * p + 2) = r (14 + 10 * q + 2) <;> simp [e, e0, e1, e2, e3]
theorem pm_path (h : P a = some (t, .inl (.int, 1175, .inl r))) {b : Nat} (hb : b < 20) : wp_X4_isPath post (some a) (nI b) P = post (if sp_path r b then 1 else 0) := by
  simp (disch := omega) only [wp_X4_isPath, wp_X4_burdenAt, rd_i h, rl0 h, rl1 h, rl2 h, rl3 h, rl4 h, rl5 h, rl6 h, rl7 h, rl1054 h, ix_p, ix_d, ix_b, ia0, ia1, ia2, ia3, ia4, ia5, ia6, ia7, ia8, ia9, ia10, ia11, ia12, zt_k, Nat.add_zero, zi_ite, sp_p, sp_d, sp_b, sp_e, sp_lv, sp_has, sp_at, sp_nbr, sp_obl, sp_path, sp_end, sp_hp, Nat.add_zero]
theorem pm_end (h : P a = some (t, .inl (.int, 1175, .inl r))) {b : Nat} (hb : b < 20) : wp_X4_isEnded post (some a) (nI b) P = post (if sp_end r b then 1 else 0) := by
  simp (disch := omega) only [wp_X4_isEnded, wp_X4_burdenAt, rd_i h, rl0 h, rl1 h, rl2 h, rl3 h, rl4 h, rl5 h, rl6 h, rl7 h, rl1054 h, ix_p, ix_d, ix_b, ia0, ia1, ia2, ia3, ia4, ia5, ia6, ia7, ia8, ia9, ia10, ia11, ia12, zt_k, Nat.add_zero, zi_ite]
theorem sp_sh (p : Nat) (hp : p < 40) : (nI p - nI p / 20 * 20) &&& 31 = nI (p % 20) := by
  revert p; decide
theorem pm_on (h : P a = some (t, .inl (.int, 1175, .inl r))) {b p : Nat} (hb : b < 20) (hp : p < 40) : wp_X4_liesOn post (some a) (nI b) (nI p) P = post (if sp_on r b p then 1 else 0) := by
  have e : ((20 : Int32) ≤ nI p) ↔ ¬ p < 20 := by rw [show (20 : Int32) = nI 20 from rfl, nI_leI (by decide) (by omega)]; omega
  simp (disch := omega) only [wp_X4_liesOn, wj_X4_liesOn_15, wp_X4_burdenAt, rd_i h, rl0 h, rl1 h, rl2 h, rl3 h, rl4 h, rl5 h, rl6 h, rl7 h, rl1054 h, ix_p, ix_d, ix_b, ia0, ia1, ia2, ia3, ia4, ia5, ia6, ia7, ia8, ia9, ia10, ia11, ia12, zt_k, Nat.add_zero, zi_iff e, zi_not, sp_sh p hp]
  simp only [zi_ite]
  by_cases c : p < 20 <;> simp only [sp_on, c, if_true, if_false, sp_p, sp_d, sp_b, sp_e, sp_lv, sp_has, sp_at, sp_nbr, sp_obl, sp_path, sp_end, sp_hp, Nat.add_zero]
theorem pm_deedOn (h : P a = some (t, .inl (.int, 1175, .inl r))) (hc : sp_C r) {p day : Int32} : wp_X4_deedOn post (some a) p day P = post (sp_dn r p day (nD r)) := by
  obtain ⟨-, -, c6, -, -, -, -, b6, -⟩ := hc
  unfold wp_X4_deedOn
  rw [rl6 h, zt_k, c6, show nI (nD r) - 1 = nI (nD r - 0) - 1 from rfl]
  refine (ql1 (wb_X4_deedOn_7 post (some a) p day P) (wl_X4_deedOn_7 post (some a) p day P) (fun _ => rfl) (fun _ _ => rfl) (nD r) (fun k => nI (nD r - k) - 1) (fun k => post (sp_dn r p day (nD r - k))) (fun k => sp_d r (nD r - (k + 1)) 0 = p ∧ sp_d r (nD r - (k + 1)) 1 ≤ day) (fun k => post (nI (nD r - (k + 1)))) ?_ ?_ ?_).trans (by rw [Nat.sub_zero])
  · intro k hk K
    obtain ⟨d, hd⟩ : ∃ d, nD r - k = d + 1 := ⟨nD r - k - 1, by omega⟩
    have e : nD r - (k + 1) = d := by omega
    rw [hd, e, nI_pred]
    have hn : ¬ nI d < 0 := nI_pos (by omega)
    simp (disch := omega) only [wb_X4_deedOn_7, wj_X4_deedOn_35, wp_X4_deedAt, rd_i h, rl0 h, rl1 h, rl2 h, rl3 h, rl4 h, rl5 h, rl6 h, rl7 h, rl1054 h, ix_p, ix_d, ix_b, ia0, ia1, ia2, ia3, ia4, ia5, ia6, ia7, ia8, ia9, ia10, ia11, ia12, zt_k, Nat.add_zero, zi_f hn, zi_if]
    have e2 : nI d + (-1) = nI d - 1 := by rw [Int32.sub_eq_add_neg]
    rw [e2]
    simp only [sp_p, sp_d, sp_b, sp_e, sp_lv, sp_has, sp_at, sp_nbr, sp_obl, sp_path, sp_end, sp_hp, Nat.add_zero]
    grind [Int32.not_le, Int32.not_lt]
  · intro k hk
    obtain ⟨d, hd⟩ : ∃ d, nD r - k = d + 1 := ⟨nD r - k - 1, by omega⟩
    have e : nD r - (k + 1) = d := by omega
    rw [hd, e, zi_if]
    show post (if _ then _ else _) = _
    split <;> rfl
  · intro K
    rw [Nat.sub_self]
    unfold wb_X4_deedOn_7
    rw [zi_t (by decide)]
    rfl
theorem pm_shareOf (h : P a = some (t, .inl (.int, 1175, .inl r))) (hc : sp_C r) (hd : sp_D r) {p o : Nat} (hp : p < nP r) (ho : o < 6) : wp_X4_shareOf post (some a) (nI p) (nI o) P = post (sp_share r p o) := by
  obtain ⟨h1, h2⟩ := hd p hp
  have b := hc.2.2.2.2.2.2.2.1
  have e : (2 : Int32) + nI o = nI (2 + o) := nI_add 2 o
  simp (disch := omega) only [wp_X4_shareOf, pm_deedOn h hc, h1, e, wp_X4_deedAt, nI_add, rd_i h, rl0 h, rl1 h, rl2 h, rl3 h, rl4 h, rl5 h, rl6 h, rl7 h, rl1054 h, ix_p, ix_d, ix_b, ia0, ia1, ia2, ia3, ia4, ia5, ia6, ia7, ia8, ia9, ia10, ia11, ia12, zt_k, Nat.add_zero, sp_share, sp_p, sp_d, sp_b, sp_e, sp_lv, sp_has, sp_at, sp_nbr, sp_obl, sp_path, sp_end, sp_hp, Nat.add_zero]
theorem sp_nn (n k : Nat) (h : n < 2147483648) (hk : k < n) {A B : Prop} : zi (nI n ≤ nI k) A B = B := by
  rw [zi_nle h (by omega), zi_f (by omega)]
theorem sp_nk (n : Nat) {A B : Prop} : zi (nI n ≤ nI n) A B = A := zi_t (by rw [Int32.le_iff_toInt_le]; exact Int.le_refl _)
theorem pm_deedToday (h : P a = some (t, .inl (.int, 1175, .inl r))) (hc : sp_C r) (hd : sp_D r) {p : Nat} (hp : p < nP r) : wp_X4_deedToday post (some a) (nI p) P = post (if sp_d r (sp_dd r p) 1 = r 3 then nI (sp_dd r p) else -2) := by
  obtain ⟨h1, h2⟩ := hd p hp
  have b := hc.2.2.2.2.2.2.2.1
  simp (disch := omega) only [wp_X4_deedToday, pm_deedOn h hc, h1, wp_X4_deedAt, rd_i h, rl0 h, rl1 h, rl2 h, rl3 h, rl4 h, rl5 h, rl6 h, rl7 h, rl1054 h, ix_p, ix_d, ix_b, ia0, ia1, ia2, ia3, ia4, ia5, ia6, ia7, ia8, ia9, ia10, ia11, ia12, zt_k, Nat.add_zero, zi_ite, sp_p, sp_d, sp_b, sp_e, sp_lv, sp_has, sp_at, sp_nbr, sp_obl, sp_path, sp_end, sp_hp, Nat.add_zero]
theorem pm_many (h : P a = some (t, .inl (.int, 1175, .inl r))) (hc : sp_C r) {b : Nat} (hb : b < 20) : wp_X4_liesMany post (some a) (nI b) P = post (sp_many r b) := by
  obtain ⟨-, c5, -, -, -, -, b5, -⟩ := hc
  unfold wp_X4_liesMany
  refine (ql2 (wb_X4_liesMany_4 post (some a) (nI b) P) (wl_X4_liesMany_4 post (some a) (nI b) P) (fun _ _ => rfl) (fun _ _ _ => rfl) (nP r) (sp_s (fun p => if sp_on r b p then 1 else 0)) nI (fun _ => post (sp_many r b)) (fun _ => False) (fun _ => False) ?_ ?_ ?_)
  · intro k hk K
    simp (disch := omega) only [wb_X4_liesMany_4, wj_X4_liesMany_23, rd_i h, rl0 h, rl1 h, rl2 h, rl3 h, rl4 h, rl5 h, rl6 h, rl7 h, rl1054 h, ix_p, ix_d, ix_b, ia0, ia1, ia2, ia3, ia4, ia5, ia6, ia7, ia8, ia9, ia10, ia11, ia12, zt_k, Nat.add_zero, c5, sp_nn, pm_on h, zi_b0, zi_f not_false, sp_s]
    by_cases c : sp_on r b k
    · rw [zi_t c, if_pos c]
    · rw [zi_f c, if_neg c, Int32.add_zero]
  · exact fun k _ => (zi_f not_false).symm
  · intro K
    simp (disch := omega) only [wb_X4_liesMany_4, rd_i h, rl0 h, rl1 h, rl2 h, rl3 h, rl4 h, rl5 h, rl6 h, rl7 h, rl1054 h, ix_p, ix_d, ix_b, ia0, ia1, ia2, ia3, ia4, ia5, ia6, ia7, ia8, ia9, ia10, ia11, ia12, zt_k, Nat.add_zero, c5, sp_nk, sp_many]
theorem pm_rankOf (h : P a = some (t, .inl (.int, 1175, .inl r))) (hc : sp_C r) {b p : Nat} (hb : b < 20) (hp : p < 40) : wp_X4_rankOf post (some a) (nI b) (nI p) P = post (sp_rank r b p) := by
  obtain ⟨-, -, -, c7, -, -, -, -, b7, -⟩ := hc
  unfold wp_X4_rankOf
  refine (ql2 (wb_X4_rankOf_5 post (some a) (nI b) (nI p) P) (wl_X4_rankOf_5 post (some a) (nI b) (nI p) P) (fun _ _ => rfl) (fun _ _ _ => rfl) (nB r) (sp_s (fun o => if sp_on r o p ∧ ¬ sp_b r b 3 ≤ sp_b r o 3 then 1 else 0)) nI (fun _ => post (sp_rank r b p)) (fun _ => False) (fun _ => False) ?_ ?_ ?_)
  · intro k hk K
    simp (disch := omega) only [wb_X4_rankOf_5, wj_X4_rankOf_45, rd_i h, rl0 h, rl1 h, rl2 h, rl3 h, rl4 h, rl5 h, rl6 h, rl7 h, rl1054 h, ix_p, ix_d, ix_b, ia0, ia1, ia2, ia3, ia4, ia5, ia6, ia7, ia8, ia9, ia10, ia11, ia12, zt_k, Nat.add_zero, c7, sp_nn, pm_on h, zi_b0, zi_f not_false, sp_s, wp_X4_burdenAt]
    simp only [zi_if, sp_p, sp_d, sp_b, sp_e, sp_lv, sp_has, sp_at, sp_nbr, sp_obl, sp_path, sp_end, sp_hp, Nat.add_zero]
    grind [Int32.add_zero]
  · exact fun k _ => (zi_f not_false).symm
  · intro K
    simp (disch := omega) only [wb_X4_rankOf_5, rd_i h, rl0 h, rl1 h, rl2 h, rl3 h, rl4 h, rl5 h, rl6 h, rl7 h, rl1054 h, ix_p, ix_d, ix_b, ia0, ia1, ia2, ia3, ia4, ia5, ia6, ia7, ia8, ia9, ia10, ia11, ia12, zt_k, Nat.add_zero, c7, sp_nk, sp_rank]
theorem pm_ahead (h : P a = some (t, .inl (.int, 1175, .inl r))) (hc : sp_C r) {p : Nat} {pl : Int32} (hp : p < 40) : wp_X4_loadAhead post (some a) (nI p) pl P = post (sp_ahead r p pl) := by
  obtain ⟨-, -, -, c7, -, -, -, -, b7, -⟩ := hc
  unfold wp_X4_loadAhead
  refine (ql2 (wb_X4_loadAhead_5 post (some a) (nI p) pl P) (wl_X4_loadAhead_5 post (some a) (nI p) pl P) (fun _ _ => rfl) (fun _ _ _ => rfl) (nB r) (sp_s (fun b => if ¬ sp_path r b ∧ sp_on r b p ∧ ¬ pl ≤ sp_b r b 3 then sp_b r b 2 else 0)) nI (fun _ => post (sp_ahead r p pl)) (fun _ => False) (fun _ => False) ?_ ?_ ?_)
  · intro k hk K
    simp (disch := omega) only [wb_X4_loadAhead_5, wj_X4_loadAhead_56, rd_i h, rl0 h, rl1 h, rl2 h, rl3 h, rl4 h, rl5 h, rl6 h, rl7 h, rl1054 h, ix_p, ix_d, ix_b, ia0, ia1, ia2, ia3, ia4, ia5, ia6, ia7, ia8, ia9, ia10, ia11, ia12, zt_k, Nat.add_zero, c7, sp_nn, pm_on h, pm_path h, zi_b0, zi_f not_false, sp_s, wp_X4_burdenAt]
    simp only [zi_if, sp_p, sp_d, sp_b, sp_e, sp_lv, sp_has, sp_at, sp_nbr, sp_obl, sp_path, sp_end, sp_hp, Nat.add_zero]
    grind [Int32.add_zero]
  · exact fun k _ => (zi_f not_false).symm
  · intro K
    simp (disch := omega) only [wb_X4_loadAhead_5, rd_i h, rl0 h, rl1 h, rl2 h, rl3 h, rl4 h, rl5 h, rl6 h, rl7 h, rl1054 h, ix_p, ix_d, ix_b, ia0, ia1, ia2, ia3, ia4, ia5, ia6, ia7, ia8, ia9, ia10, ia11, ia12, zt_k, Nat.add_zero, c7, sp_nk, sp_ahead]
theorem pm_load0 (h : P a = some (t, .inl (.int, 1175, .inl r))) (hc : sp_C r) {p : Nat} (hp : p < 40) : wp_X4_load0 post (some a) (nI p) P = post (sp_ahead r p 20) := by
  unfold wp_X4_load0
  rw [pm_ahead h hc hp]
theorem pm_cover (h : P a = some (t, .inl (.int, 1175, .inl r))) (hc : sp_C r) {b : Nat} {but : Int32} (hb : b < 20) : wp_X4_coverOf post (some a) (nI b) but P = post (sp_cover r b but) := by
  have hc' := hc
  obtain ⟨-, c5, -, c7, -, -, b5, -, b7, -⟩ := hc
  unfold wp_X4_coverOf
  refine (ql2 (wb_X4_coverOf_5 post (some a) (nI b) but P) (wl_X4_coverOf_5 post (some a) (nI b) but P) (fun _ _ => rfl) (fun _ _ _ => rfl) (nP r) (sp_s (fun p => if ¬ nI p = but ∧ sp_on r b p ∧ ¬ sp_worth r p - sp_ahead r p (sp_b r b 3) ≤ 0 then sp_worth r p - sp_ahead r p (sp_b r b 3) else 0)) nI (fun _ => post (sp_cover r b but)) (fun _ => False) (fun _ => False) ?_ ?_ ?_)
  · intro k hk K
    simp (disch := omega) only [wb_X4_coverOf_5, wj_X4_coverOf_64, rd_i h, rl0 h, rl1 h, rl2 h, rl3 h, rl4 h, rl5 h, rl6 h, rl7 h, rl1054 h, ix_p, ix_d, ix_b, ia0, ia1, ia2, ia3, ia4, ia5, ia6, ia7, ia8, ia9, ia10, ia11, ia12, zt_k, Nat.add_zero, c5, sp_nn, pm_on h, pm_worth h, pm_ahead h hc', zi_b0, zi_f not_false, sp_s, wp_X4_burdenAt]
    simp only [zi_if, sp_p, sp_d, sp_b, sp_e, sp_lv, sp_has, sp_at, sp_nbr, sp_obl, sp_path, sp_end, sp_hp, Nat.add_zero]
    grind [Int32.add_zero]
  · exact fun k _ => (zi_f not_false).symm
  · intro K
    simp (disch := omega) only [wb_X4_coverOf_5, rd_i h, rl0 h, rl1 h, rl2 h, rl3 h, rl4 h, rl5 h, rl6 h, rl7 h, rl1054 h, ix_p, ix_d, ix_b, ia0, ia1, ia2, ia3, ia4, ia5, ia6, ia7, ia8, ia9, ia10, ia11, ia12, zt_k, Nat.add_zero, c5, sp_nk, sp_cover]
theorem pm_uns (h : P a = some (t, .inl (.int, 1175, .inl r))) (hc : sp_C r) : wp_X4_unsf post (some a) P = post (sp_uns r) := by
  have hc' := hc
  obtain ⟨-, -, -, c7, -, -, -, -, b7, -⟩ := hc
  unfold wp_X4_unsf
  refine (ql2 (wb_X4_unsf_4 post (some a) P) (wl_X4_unsf_4 post (some a) P) (fun _ _ => rfl) (fun _ _ _ => rfl) (nB r) (sp_s (fun b => if ¬ sp_path r b ∧ ¬ sp_end r b ∧ ¬ sp_b r b 2 ≤ sp_cover r b (-2) then 1 else 0)) nI (fun _ => post (sp_uns r)) (fun _ => False) (fun _ => False) ?_ ?_ ?_)
  · intro k hk K
    simp (disch := omega) only [wb_X4_unsf_4, wj_X4_unsf_48, rd_i h, rl0 h, rl1 h, rl2 h, rl3 h, rl4 h, rl5 h, rl6 h, rl7 h, rl1054 h, ix_p, ix_d, ix_b, ia0, ia1, ia2, ia3, ia4, ia5, ia6, ia7, ia8, ia9, ia10, ia11, ia12, zt_k, Nat.add_zero, c7, sp_nn, pm_path h, pm_end h, pm_cover h hc', zi_b0, zi_f not_false, sp_s, wp_X4_burdenAt]
    simp only [zi_if, sp_p, sp_d, sp_b, sp_e, sp_lv, sp_has, sp_at, sp_nbr, sp_obl, sp_path, sp_end, sp_hp, Nat.add_zero]
    grind [Int32.add_zero]
  · exact fun k _ => (zi_f not_false).symm
  · intro K
    simp (disch := omega) only [wb_X4_unsf_4, rd_i h, rl0 h, rl1 h, rl2 h, rl3 h, rl4 h, rl5 h, rl6 h, rl7 h, rl1054 h, ix_p, ix_d, ix_b, ia0, ia1, ia2, ia3, ia4, ia5, ia6, ia7, ia8, ia9, ia10, ia11, ia12, zt_k, Nat.add_zero, c7, sp_nk, sp_uns]
def sp_ex (c : Nat → Prop) (n k : Nat) : Prop := ∃ j, k ≤ j ∧ j < n ∧ c j
theorem sp_ex_s {c : Nat → Prop} {n k : Nat} (hk : k < n) {A B : Prop} : zi (sp_ex c n k) A B = zi (c k) A (zi (sp_ex c n (k + 1)) A B) := by
  rw [← zi_or]
  refine zi_iff ⟨?_, ?_⟩
  · rintro ⟨j, h1, h2, h3⟩
    by_cases e : j = k
    · exact Or.inl (e ▸ h3)
    · exact Or.inr ⟨j, by omega, h2, h3⟩
  · rintro (h | ⟨j, h1, h2, h3⟩)
    · exact ⟨k, Nat.le_refl _, hk, h⟩
    · exact ⟨j, by omega, h2, h3⟩
theorem sp_ex_n {c : Nat → Prop} {n : Nat} {A B : Prop} : zi (sp_ex c n n) A B = B := zi_f (by rintro ⟨j, h1, h2, -⟩; omega)
theorem sp_ex_0 {c : Nat → Prop} [DecidablePred c] {n : Nat} : sp_ex c n 0 ↔ sp_min c n < n :=
  ⟨fun ⟨j, _, h2, h3⟩ => (sp_min_lt c n j h2 h3).1, fun h => ⟨_, Nat.zero_le _, h, sp_min_is c n h⟩⟩
theorem pm_hasPath (h : P a = some (t, .inl (.int, 1175, .inl r))) (hc : sp_C r) {x y : Int32} : wp_X4_hasPath post (some a) x y P = post (if sp_min (sp_hp r x y) (nB r) < nB r then 1 else 0) := by
  obtain ⟨-, -, -, c7, -, -, -, -, b7, -⟩ := hc
  unfold wp_X4_hasPath
  refine (ql1 (wb_X4_hasPath_2 post (some a) x y P) (wl_X4_hasPath_2 post (some a) x y P) (fun _ => rfl) (fun _ _ => rfl) (nB r) nI (fun k => zi (sp_ex (sp_hp r x y) (nB r) k) (post 1) (post 0)) (sp_hp r x y) (fun _ => post 1) ?_ (fun k hk => sp_ex_s hk) ?_).trans ?_
  · intro k hk K
    simp (disch := omega) only [wb_X4_hasPath_2, wj_X4_hasPath_50, rd_i h, rl0 h, rl1 h, rl2 h, rl3 h, rl4 h, rl5 h, rl6 h, rl7 h, rl1054 h, ix_p, ix_d, ix_b, ia0, ia1, ia2, ia3, ia4, ia5, ia6, ia7, ia8, ia9, ia10, ia11, ia12, zt_k, Nat.add_zero, c7, sp_nn, pm_path h, pm_end h, zi_b0, wp_X4_burdenAt]
    simp only [zi_if, sp_p, sp_d, sp_b, sp_e, sp_lv, sp_has, sp_at, sp_nbr, sp_obl, sp_path, sp_end, sp_hp, Nat.add_zero]
    grind
  · intro K
    simp (disch := omega) only [wb_X4_hasPath_2, rd_i h, rl0 h, rl1 h, rl2 h, rl3 h, rl4 h, rl5 h, rl6 h, rl7 h, rl1054 h, ix_p, ix_d, ix_b, ia0, ia1, ia2, ia3, ia4, ia5, ia6, ia7, ia8, ia9, ia10, ia11, ia12, zt_k, Nat.add_zero, c7, sp_nk, sp_ex_n]
  · rw [zi_iff sp_ex_0, zi_ite]
theorem pm_liveAt (h : P a = some (t, .inl (.int, 1175, .inl r))) {x y : Int32} {m : Nat} (hm : m < 40) (h1 : sp_at r x y m) (h2 : ∀ k, k < m → ¬ sp_at r x y k) : wp_X4_liveAt post (some a) x y P = post (nI m) := by
  unfold wp_X4_liveAt
  refine (ql1 (wb_X4_liveAt_2 post (some a) x y P) (wl_X4_liveAt_2 post (some a) x y P) (fun _ => rfl) (fun _ _ => rfl) m nI (fun _ => post (nI m)) (fun _ => False) (fun _ => False) ?_ ?_ ?_)
  · intro k hk K
    have := h2 k hk
    simp (disch := omega) only [wb_X4_liveAt_2, wj_X4_liveAt_20, rd_i h, rl0 h, rl1 h, rl2 h, rl3 h, rl4 h, rl5 h, rl6 h, rl7 h, rl1054 h, ix_p, ix_d, ix_b, ia0, ia1, ia2, ia3, ia4, ia5, ia6, ia7, ia8, ia9, ia10, ia11, ia12, zt_k, Nat.add_zero, pm_isLive h, pm_has h, zi_b0, zi_f not_false]
    by_cases c : sp_lv r k
    · rw [zi_t c, zi_f (fun q => this ⟨c, q⟩)]
    · rw [zi_f c]
  · exact fun k _ => (zi_f not_false).symm
  · intro K
    simp (disch := omega) only [wb_X4_liveAt_2, wj_X4_liveAt_20, rd_i h, rl0 h, rl1 h, rl2 h, rl3 h, rl4 h, rl5 h, rl6 h, rl7 h, rl1054 h, ix_p, ix_d, ix_b, ia0, ia1, ia2, ia3, ia4, ia5, ia6, ia7, ia8, ia9, ia10, ia11, ia12, zt_k, Nat.add_zero, pm_isLive h, pm_has h, zi_b0]
    rw [zi_t h1.1, zi_t h1.2]
end PM1
