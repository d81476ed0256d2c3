/-! OUR KIT: the heap as a partial function from addresses to cells; 'true': a cell of ours, at b0 or above; 'false': a constant cell, known in part, never written -/
abbrev zk_E : Type := (FieldType × vp_A) ⊕ (Nat × List Value)
abbrev zk_H : Type := Nat → Option (Bool × zk_E)
abbrev zk_G : Type := va_G × (FieldType → ClassId)
def zk_cl : List vw_C := [(RX0, TX0, 7), (RX1, TX1, 9), (RX2, TX2, 9), (RX3, TX3, 3), (RX4, TX4, 19), (RX5, TX5, 7), (RX6, TX6, 7), (RX8, TX8, 6), (RX9, TX9, 6), (RX10, TX10, 3), (RX12, TX12, 2), (RX13, TX13, 2), (RJ2, TJ2, 3), (RJ6, TJ6, 3), (RJ8, TJ8, 4), (RJ9, TJ9, 4), (RJ16, TJ16, 3)]
def zk_tys : List FieldType := [.int, .byte, .long, .boolean, .object "java/lang/Object", .object "LandFolio$Folio", .object "LandFolio$Reason"]
def zk_av (x : (Nat → Int32) ⊕ (Nat → Int64) ⊕ (Nat → UInt32) ⊕ (Nat → UInt64) ⊕ (Nat → Option Nat)) (j : Nat) : Value := match x with
  | .inl f => .int (f j)
  | .inr (.inl f) => .long (f j)
  | .inr (.inr (.inl f)) => .float (f j)
  | .inr (.inr (.inr (.inl f))) => .double (f j)
  | .inr (.inr (.inr (.inr f))) => va_rf (f j)
theorem zk_cell (cA : ClassId) (a : vp_A) : vp_cell cA a = arrV cA a.1 (zk_av a.2) := by
  obtain ⟨n, f | f | f | f | f⟩ := a <;> rfl
def zk_v (D : zk_G) (x : zk_E) : va_E := match x with
  | .inl q => .inl (D.2 q.1, q.2)
  | .inr o => .inr o
def zk_ok (x : zk_E) : Prop := match x with
  | .inl q => q.1 ∈ zk_tys
  | .inr _ => True
def zk_w (D : zk_G) (U : State) (a : Nat) (x : zk_E) (H : Heap) : Prop := match x with
  | .inl q => ∃ cell : Cell, H[a]? = some cell ∧ U.isArrayOf cell q.1 ∧ cell.vm ≠ .unknown ∧ cell.slots.size = q.2.1 ∧ (∀ j : Nat, j < q.2.1 → cell.slots[j]? = some (zk_av q.2.2 j)) ∧ U.vm.findClass ("[" ++ q.1.toString) = some cell.cls
  | .inr o => ∃ (r : vw_C) (cell : Cell), zk_cl[o.1]? = some r ∧ H[a]? = some cell ∧ cell.vm ≠ .unknown ∧ cell.vm.isStatics = false ∧ U.vm.findClass r.1 = some cell.cls ∧ ∀ k : Nat, k < r.2.2 → cell.slots[D.1.2 o.1 k]? = some (vp_V o.2 k)
def zk_at (D : zk_G) (b0 : Nat) (U : State) (a : Nat) (t : Bool) (x : zk_E) (H : Heap) : Prop := match t with
  | true => va_at D.1 zk_cl (a, zk_v D x) H ∧ b0 ≤ a ∧ zk_ok x
  | false => zk_w D U a x H
def zk_R (D : zk_G) (b0 : Nat) (P : zk_H) (U : State) (H : Heap) : Prop := b0 ≤ H.size ∧ ∀ (a : Nat) (t : Bool) (x : zk_E), P a = some (t, x) → zk_at D b0 U a t x H
def zk_A (b0 : Nat) : Nat → Prop := fun q => b0 ≤ q
def zk_u (P : zk_H) (a : Nat) (x : zk_E) : zk_H := fun b => if b = a then some (true, x) else P b
theorem zk_us {P : zk_H} {a : Nat} {x : zk_E} : zk_u P a x a = some (true, x) := if_pos rfl
theorem zk_un {P : zk_H} {a b : Nat} {x : zk_E} (h : b ≠ a) : zk_u P a x b = P b := if_neg h
/-- the tables' part -/
def zk_K (D : zk_G) (U : State) : Prop := va_K D.1 zk_cl [] U ∧ ∀ ty ∈ zk_tys, ArrOfT U (D.2 ty) ty ∧ va_RA U (D.2 ty) ty
theorem zk_K.moved {D : zk_G} {u U : State} (hvm : u.vm.Alike U.vm) (h : zk_K D u) : zk_K D U := ⟨va_K.moved hvm h.1, fun ty ht => ⟨arrOfT_moved hvm (h.2 ty ht).1, (h.2 ty ht).2.moved hvm⟩⟩
theorem zk_w.moved {D : zk_G} {u U : State} {a : Nat} {x : zk_E} {H : Heap} (hvm : u.vm.Alike U.vm) (h : zk_w D u a x H) : zk_w D U a x H := by
  cases x with
  | inl q =>
    obtain ⟨cell, h1, h2, h3, h4, h5, h6⟩ := h
    exact ⟨cell, h1, State.isArrayOf_alike hvm h2, h3, h4, h5, by rw [hvm.findClass]; exact h6⟩
  | inr o =>
    obtain ⟨r, cell, h1, h2, h3, h4, h5, h6⟩ := h
    exact ⟨r, cell, h1, h2, h3, h4, by rw [hvm.findClass]; exact h5, h6⟩
theorem zk_w.kept {D : zk_G} {U : State} {a : Nat} {x : zk_E} {H H1 : Heap} (hq : H1[a]? = H[a]?) (h : zk_w D U a x H) : zk_w D U a x H1 := by
  cases x with
  | inl q =>
    obtain ⟨cell, h1, h2⟩ := h
    exact ⟨cell, by rw [hq]; exact h1, h2⟩
  | inr o =>
    obtain ⟨r, cell, h1, h2, h3⟩ := h
    exact ⟨r, cell, h1, by rw [hq]; exact h2, h3⟩
theorem zk_w.lt {D : zk_G} {U : State} {a : Nat} {x : zk_E} {H : Heap} (h : zk_w D U a x H) : a < H.size := by
  cases x with
  | inl q =>
    obtain ⟨cell, h1, h2⟩ := h
    exact (Array.getElem?_eq_some_iff.mp h1).1
  | inr o =>
    obtain ⟨r, cell, h1, h2, h3⟩ := h
    exact (Array.getElem?_eq_some_iff.mp h2).1
theorem zk_at.moved {D : zk_G} {b0 : Nat} {u U : State} {a : Nat} {t : Bool} {x : zk_E} {H : Heap} (hvm : u.vm.Alike U.vm) (h : zk_at D b0 u a t x H) : zk_at D b0 U a t x H := by
  cases t with
  | true => exact h
  | false => exact zk_w.moved hvm h
theorem zk_at.kept {D : zk_G} {b0 : Nat} {U : State} {a : Nat} {t : Bool} {x : zk_E} {H H1 : Heap} (hq : H1[a]? = H[a]?) (h : zk_at D b0 U a t x H) : zk_at D b0 U a t x H1 := by
  cases t with
  | true => exact ⟨va_at.kept h.1 hq, h.2⟩
  | false => exact zk_w.kept hq h
theorem zk_at.lt {D : zk_G} {b0 : Nat} {U : State} {a : Nat} {t : Bool} {x : zk_E} {H : Heap} (h : zk_at D b0 U a t x H) : a < H.size := by
  cases t with
  | true => exact va_at.lt h.1
  | false => exact zk_w.lt h
theorem zk_R.moved {D : zk_G} {b0 : Nat} {P : zk_H} {u U : State} {H : Heap} (hvm : u.vm.Alike U.vm) (h : zk_R D b0 P u H) : zk_R D b0 P U H := ⟨h.1, fun a t x hx => zk_at.moved hvm (h.2 a t x hx)⟩
theorem zk_R.lt {D : zk_G} {b0 : Nat} {P : zk_H} {U : State} {H : Heap} (h : zk_R D b0 P U H) {a : Nat} (ha : P a ≠ none) : a < H.size := by
  cases hx : P a with
  | none => exact absurd hx ha
  | some q => exact zk_at.lt (h.2 a q.1 q.2 hx)
theorem zk_R.none {D : zk_G} {b0 : Nat} {P : zk_H} {U : State} {H : Heap} (h : zk_R D b0 P U H) : P H.size = none := by
  cases hx : P H.size with
  | none => rfl
  | some q => exact absurd (h.lt (a := H.size) (by rw [hx]; simp)) (Nat.lt_irrefl _)
theorem zk_RAn {U : State} {cA : ClassId} {ty : FieldType} (h : va_RA U cA ty) : U.vm.findClass ("[" ++ ty.toString) = some cA := by
  cases ty with
  | object C =>
    obtain ⟨-, -, -, -, -, h4⟩ := h
    exact h4
  | _ => exact h
/-- what is read of an array -/
theorem zk_at.arr {D : zk_G} {b0 : Nat} {U : State} {a : Nat} {t : Bool} {q : FieldType × vp_A} {H : Heap} (hK : zk_K D U) (h : zk_at D b0 U a t (.inl q) H) : ∃ cell : Cell, H[a]? = some cell ∧ U.isArrayOf cell q.1 ∧ cell.vm ≠ .unknown ∧ cell.slots.size = q.2.1 ∧ (∀ j : Nat, j < q.2.1 → cell.slots[j]? = some (zk_av q.2.2 j)) ∧ U.vm.findClass ("[" ++ q.1.toString) = some cell.cls := by
  cases t with
  | true =>
    obtain ⟨h1, h2, h3⟩ := h
    have h1 : H[a]? = some (vp_cell (D.2 q.1) q.2) := h1
    rw [zk_cell] at h1
    exact ⟨_, h1, (hK.2 q.1 h3).1 _ _, (fun z => by cases z), arrV_size _ _ _, (fun j hj => arrV_read _ _ hj), zk_RAn (hK.2 q.1 h3).2⟩
  | false => exact h
/-- what is read of an object -/
theorem zk_at.obj {D : zk_G} {b0 : Nat} {U : State} {a : Nat} {t : Bool} {o : Nat × List Value} {H : Heap} (hK : zk_K D U) (h : zk_at D b0 U a t (.inr o) H) : ∃ (r : vw_C) (cell : Cell), zk_cl[o.1]? = some r ∧ H[a]? = some cell ∧ cell.vm ≠ .unknown ∧ cell.vm.isStatics = false ∧ U.vm.findClass r.1 = some cell.cls ∧ ∀ k : Nat, k < r.2.2 → cell.slots[D.1.2 o.1 k]? = some (vp_V o.2 k) := by
  cases t with
  | true =>
    obtain ⟨⟨r, h1, cell, g1, g2, g3, g4⟩, h2, h3⟩ := h
    exact ⟨r, cell, h1, g1, (by rw [g3]; exact fun z => (by cases z)), (by rw [g3]; rfl), (by rw [g2]; exact (hK.1.1 _ _ h1).2.1), g4⟩
  | false => exact h
theorem zk_R.put {D : zk_G} {b0 : Nat} {P : zk_H} {U : State} {H H1 : Heap} {a : Nat} {x : zk_E} (h : zk_R D b0 P U H) (hx : zk_at D b0 U a true x H1) (z : H1.size = H.size) (oq : ∀ q : Nat, q ≠ a → H1[q]? = H[q]?) : zk_R D b0 (zk_u P a x) U H1 := by
  refine ⟨by rw [z]; exact h.1, fun b t y hy => ?_⟩
  by_cases hb : b = a
  · subst hb
    rw [zk_us] at hy
    cases hy
    exact hx
  · rw [zk_un hb] at hy
    exact zk_at.kept (oq b hb) (h.2 b t y hy)
theorem zk_R.push {D : zk_G} {b0 : Nat} {P : zk_H} {U : State} {H H1 : Heap} {x : zk_E} (h : zk_R D b0 P U H) (hx : zk_at D b0 U H.size true x H1) (z : H1.size = H.size + 1) (oq : ∀ q : Nat, q < H.size → H1[q]? = H[q]?) : zk_R D b0 (zk_u P H.size x) U H1 := by
  refine ⟨by rw [z]; exact Nat.le_succ_of_le h.1, fun b t y hy => ?_⟩
  by_cases hb : b = H.size
  · subst hb
    rw [zk_us] at hy
    cases hy
    exact hx
  · rw [zk_un hb] at hy
    exact zk_at.kept (oq b (zk_at.lt (h.2 b t y hy))) (h.2 b t y hy)
theorem zk_S.push {b0 : Nat} {H0 H H1 : Heap} {locs : List Loc} (h : va_S (zk_A b0) H0 H locs) (z : H1.size = H.size + 1) (oq : ∀ q : Nat, q < H.size → H1[q]? = H[q]?) : va_S (zk_A b0) H0 H1 locs := ⟨Nat.le_trans h.1 (by omega), fun q h1 h2 => (oq q (Nat.lt_of_lt_of_le h1 h.1)).trans (h.2.1 q h1 h2), h.2.2⟩
