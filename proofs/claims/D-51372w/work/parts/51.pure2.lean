/-! THE PURE PART 2: words of the specification (the row of the reference), and what the reference reads -/
theorem zt_k {α : Type} {x : α} {K : α → Prop} : zt x K = K x := rfl
theorem zi_if {c A B : Prop} [Decidable c] : zi c A B = (if c then A else B) := by
  by_cases h : c
  · rw [zi_t h, if_pos h]
  · rw [zi_f h, if_neg h]
theorem zi_nle {a b : Nat} {A B : Prop} (ha : a < 2147483648) (hb : b < 2147483648) : zi (nI a ≤ nI b) A B = zi (a ≤ b) A B := zi_iff (nI_leI ha hb)
theorem zi_nlt {a b : Nat} {A B : Prop} (ha : a < 2147483648) (hb : b < 2147483648) : zi (nI a < nI b) A B = zi (a < b) A B := zi_iff (nI_ltI ha hb)
theorem zi_neq {a b : Nat} {A B : Prop} (ha : a < 2147483648) (hb : b < 2147483648) : zi (nI a = nI b) A B = zi (a = b) A B := zi_iff (nI_eq ha hb)
theorem rl0 {P : zk_H} {a : Nat} {t : Bool} {r : Nat → Int32} (h : P a = some (t, .inl (.int, 1175, .inl r))) {K : Int32 → Prop} : za_i P (some a) .int 0 K = K (r 0) := rd_i h 0 (by decide) (by decide)
theorem rl1 {P : zk_H} {a : Nat} {t : Bool} {r : Nat → Int32} (h : P a = some (t, .inl (.int, 1175, .inl r))) {K : Int32 → Prop} : za_i P (some a) .int 1 K = K (r 1) := rd_i h 1 (by decide) (by decide)
theorem rl2 {P : zk_H} {a : Nat} {t : Bool} {r : Nat → Int32} (h : P a = some (t, .inl (.int, 1175, .inl r))) {K : Int32 → Prop} : za_i P (some a) .int 2 K = K (r 2) := rd_i h 2 (by decide) (by decide)
theorem rl3 {P : zk_H} {a : Nat} {t : Bool} {r : Nat → Int32} (h : P a = some (t, .inl (.int, 1175, .inl r))) {K : Int32 → Prop} : za_i P (some a) .int 3 K = K (r 3) := rd_i h 3 (by decide) (by decide)
theorem rl4 {P : zk_H} {a : Nat} {t : Bool} {r : Nat → Int32} (h : P a = some (t, .inl (.int, 1175, .inl r))) {K : Int32 → Prop} : za_i P (some a) .int 4 K = K (r 4) := rd_i h 4 (by decide) (by decide)
theorem rl5 {P : zk_H} {a : Nat} {t : Bool} {r : Nat → Int32} (h : P a = some (t, .inl (.int, 1175, .inl r))) {K : Int32 → Prop} : za_i P (some a) .int 5 K = K (r 5) := rd_i h 5 (by decide) (by decide)
theorem rl6 {P : zk_H} {a : Nat} {t : Bool} {r : Nat → Int32} (h : P a = some (t, .inl (.int, 1175, .inl r))) {K : Int32 → Prop} : za_i P (some a) .int 6 K = K (r 6) := rd_i h 6 (by decide) (by decide)
theorem rl7 {P : zk_H} {a : Nat} {t : Bool} {r : Nat → Int32} (h : P a = some (t, .inl (.int, 1175, .inl r))) {K : Int32 → Prop} : za_i P (some a) .int 7 K = K (r 7) := rd_i h 7 (by decide) (by decide)
theorem rl1054 {P : zk_H} {a : Nat} {t : Bool} {r : Nat → Int32} (h : P a = some (t, .inl (.int, 1175, .inl r))) {K : Int32 → Prop} : za_i P (some a) .int 1054 K = K (r 1054) := rd_i h 1054 (by decide) (by decide)
theorem nI_mulc (c p : Nat) : nI c * nI p = nI (c * p) := (Int32.ofNat_mul c p).symm
theorem ix_p (p : Nat) : (14 : Int32) + (10 : Int32) * nI p = nI (14 + 10 * p) := by rw [show (10 : Int32) = nI 10 from rfl, nI_mulc, show (14 : Int32) = nI 14 from rfl, nI_add]
theorem ix_d (p : Nat) : (414 : Int32) + (8 : Int32) * nI p = nI (414 + 8 * p) := by rw [show (8 : Int32) = nI 8 from rfl, nI_mulc, show (414 : Int32) = nI 414 from rfl, nI_add]
theorem ix_b (p : Nat) : (894 : Int32) + (8 : Int32) * nI p = nI (894 + 8 * p) := by rw [show (8 : Int32) = nI 8 from rfl, nI_mulc, show (894 : Int32) = nI 894 from rfl, nI_add]
theorem ia0 (p : Nat) : nI p + (0 : Int32) = nI (p + 0) := nI_add p 0
theorem ia1 (p : Nat) : nI p + (1 : Int32) = nI (p + 1) := nI_add p 1
theorem ia2 (p : Nat) : nI p + (2 : Int32) = nI (p + 2) := nI_add p 2
theorem ia3 (p : Nat) : nI p + (3 : Int32) = nI (p + 3) := nI_add p 3
theorem ia4 (p : Nat) : nI p + (4 : Int32) = nI (p + 4) := nI_add p 4
theorem ia5 (p : Nat) : nI p + (5 : Int32) = nI (p + 5) := nI_add p 5
theorem ia6 (p : Nat) : nI p + (6 : Int32) = nI (p + 6) := nI_add p 6
theorem ia7 (p : Nat) : nI p + (7 : Int32) = nI (p + 7) := nI_add p 7
theorem ia8 (p : Nat) : nI p + (8 : Int32) = nI (p + 8) := nI_add p 8
theorem ia9 (p : Nat) : nI p + (9 : Int32) = nI (p + 9) := nI_add p 9
theorem ia10 (p : Nat) : nI p + (10 : Int32) = nI (p + 10) := nI_add p 10
theorem ia11 (p : Nat) : nI p + (11 : Int32) = nI (p + 11) := nI_add p 11
theorem ia12 (p : Nat) : nI p + (12 : Int32) = nI (p + 12) := nI_add p 12
abbrev sR : Type := Nat → Int32
abbrev sp_p (r : sR) (p f : Nat) : Int32 := r (14 + 10 * p + f)
abbrev sp_d (r : sR) (d f : Nat) : Int32 := r (414 + 8 * d + f)
abbrev sp_b (r : sR) (b f : Nat) : Int32 := r (894 + 8 * b + f)
abbrev sp_e (r : sR) (i f : Nat) : Int32 := r (1055 + 3 * i + f)
abbrev nO (r : sR) : Nat := (r 4).toNatClampNeg
abbrev nP (r : sR) : Nat := (r 5).toNatClampNeg
abbrev nD (r : sR) : Nat := (r 6).toNatClampNeg
abbrev nB (r : sR) : Nat := (r 7).toNatClampNeg
abbrev nL (r : sR) : Nat := (r 1054).toNatClampNeg
/-- the counts are counts -/
def sp_C (r : sR) : Prop := r 4 = nI (nO r) ∧ r 5 = nI (nP r) ∧ r 6 = nI (nD r) ∧ r 7 = nI (nB r) ∧ r 1054 = nI (nL r) ∧ nO r ≤ 6 ∧ nP r ≤ 40 ∧ nD r ≤ 60 ∧ nB r ≤ 20 ∧ nL r ≤ 40
/-- a sum over the first n -/
def sp_s (f : Nat → Int32) : Nat → Int32
  | 0 => 0
  | n + 1 => sp_s f n + f n
/-- the first below n, or n -/
def sp_min (c : Nat → Prop) [DecidablePred c] : Nat → Nat
  | 0 => 0
  | n + 1 => if sp_min c n < n then sp_min c n else if c n then n else n + 1
theorem sp_min_le (c : Nat → Prop) [DecidablePred c] (n : Nat) : sp_min c n ≤ n := by
  induction n with
  | zero => exact Nat.le_refl _
  | succ n ih => unfold sp_min; split; omega; split <;> omega
theorem sp_min_no (c : Nat → Prop) [DecidablePred c] (n : Nat) : ∀ k, k < sp_min c n → ¬ c k := by
  induction n with
  | zero => intro k h; exact absurd h (Nat.not_lt_zero _)
  | succ n ih =>
    intro k h
    unfold sp_min at h
    split at h
    · exact ih k h
    · have := sp_min_le c n
      have e : sp_min c n = n := by omega
      split at h
      · exact ih k (by omega)
      · rename_i hc
        by_cases hk : k = n
        · subst hk; exact hc
        · exact ih k (by omega)
theorem sp_min_is (c : Nat → Prop) [DecidablePred c] (n : Nat) (h : sp_min c n < n) : c (sp_min c n) := by
  induction n with
  | zero => exact absurd h (Nat.not_lt_zero _)
  | succ n ih =>
    unfold sp_min at h ⊢
    split at h
    · rename_i h1; rw [if_pos h1]; exact ih h1
    · rename_i h1
      rw [if_neg h1]
      split at h
      · rename_i hc; rw [if_pos hc]; exact hc
      · omega
theorem sp_min_lt (c : Nat → Prop) [DecidablePred c] (n k : Nat) (hk : k < n) (hc : c k) : sp_min c n < n ∧ sp_min c n ≤ k := by
  have h1 : sp_min c n ≤ k := by
    by_cases h : sp_min c n ≤ k
    · exact h
    · exact absurd hc (sp_min_no c n k (by omega))
  exact ⟨by omega, h1⟩
abbrev sp_lv (r : sR) (p : Nat) : Prop := sp_p r p 4 = 1
abbrev sp_has (r : sR) (p : Nat) (x y : Int32) : Prop := (sp_p r p 0 ≤ x ∧ x ≤ sp_p r p 0 + sp_p r p 2 - 1) ∧ (sp_p r p 1 ≤ y ∧ y ≤ sp_p r p 1 + sp_p r p 3 - 1)
abbrev sp_at (r : sR) (x y : Int32) (p : Nat) : Prop := sp_lv r p ∧ sp_has r p x y
def sp_area (r : sR) (p : Nat) : Int32 := sp_p r p 2 * sp_p r p 3
def sp_worth (r : sR) (p : Nat) : Int32 := sp_area r p * r 2
def sp_com (a b c d : Int32) : Int32 := (if c + d ≤ a + b then c + d else a + b) - (if a ≤ c then c else a)
def sp_edge (r : sR) (a b : Nat) : Int32 :=
  if sp_com (sp_p r a 0) (sp_p r a 2) (sp_p r b 0) (sp_p r b 2) = 0 ∧ ¬ sp_com (sp_p r a 1) (sp_p r a 3) (sp_p r b 1) (sp_p r b 3) ≤ 0 then sp_com (sp_p r a 1) (sp_p r a 3) (sp_p r b 1) (sp_p r b 3)
  else if sp_com (sp_p r a 1) (sp_p r a 3) (sp_p r b 1) (sp_p r b 3) = 0 ∧ ¬ sp_com (sp_p r a 0) (sp_p r a 2) (sp_p r b 0) (sp_p r b 2) ≤ 0 then sp_com (sp_p r a 0) (sp_p r a 2) (sp_p r b 0) (sp_p r b 2) else 0
abbrev sp_nbr (r : sR) (a b : Nat) : Prop := a ≠ b ∧ sp_lv r b ∧ ¬ sp_edge r a b ≤ 0
abbrev sp_obl (r : sR) (a b : Nat) : Prop := ¬ sp_edge r a b ≤ 0 ∧ ((sp_p r a 1 = sp_p r b 1 ∧ sp_p r a 3 = sp_p r b 3) ∨ (sp_p r a 0 = sp_p r b 0 ∧ sp_p r a 2 = sp_p r b 2))
/-- the last deed of p's below k that holds on the day -/
def sp_dn (r : sR) (p day : Int32) : Nat → Int32
  | 0 => -2
  | k + 1 => if sp_d r k 0 = p ∧ sp_d r k 1 ≤ day then nI k else sp_dn r p day k
def sp_dd (r : sR) (p : Nat) : Nat := (sp_dn r (nI p) 9999 (nD r)).toNatClampNeg
/-- every parcel has a deed -/
def sp_D (r : sR) : Prop := ∀ p, p < nP r → sp_dn r (nI p) 9999 (nD r) = nI (sp_dd r p) ∧ sp_dd r p < nD r
def sp_share (r : sR) (p o : Nat) : Int32 := sp_d r (sp_dd r p) (2 + o)
abbrev sp_on (r : sR) (b p : Nat) : Prop := (sp_b r b (if p < 20 then 6 else 7) >>> nI (p % 20)) &&& 1 = 1
abbrev sp_path (r : sR) (b : Nat) : Prop := sp_b r b 0 = 1
abbrev sp_end (r : sR) (b : Nat) : Prop := sp_b r b 4 = 1
def sp_many (r : sR) (b : Nat) : Int32 := sp_s (fun p => if sp_on r b p then 1 else 0) (nP r)
def sp_rank (r : sR) (b p : Nat) : Int32 := sp_s (fun o => if sp_on r o p ∧ ¬ sp_b r b 3 ≤ sp_b r o 3 then 1 else 0) (nB r)
def sp_ahead (r : sR) (p : Nat) (pl : Int32) : Int32 := sp_s (fun b => if ¬ sp_path r b ∧ sp_on r b p ∧ ¬ pl ≤ sp_b r b 3 then sp_b r b 2 else 0) (nB r)
def sp_cover (r : sR) (b : Nat) (but : Int32) : Int32 := sp_s (fun p => if ¬ nI p = but ∧ sp_on r b p ∧ ¬ sp_worth r p - sp_ahead r p (sp_b r b 3) ≤ 0 then sp_worth r p - sp_ahead r p (sp_b r b 3) else 0) (nP r)
def sp_uns (r : sR) : Int32 := sp_s (fun b => if ¬ sp_path r b ∧ ¬ sp_end r b ∧ ¬ sp_b r b 2 ≤ sp_cover r b (-2) then 1 else 0) (nB r)
abbrev sp_hp (r : sR) (x y : Int32) (b : Nat) : Prop := sp_path r b ∧ ¬ sp_end r b ∧ sp_b r b 1 = x ∧ sp_b r b 2 = y
