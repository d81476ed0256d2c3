/-! OUR KIT 5: new objects and arrays, casts, stores of references, ends, calls -/
/-- a class that is made: its number, its default fields -/
def zk_nc (ci : Nat) (C : String) (N : Nat) (fs : List Value) : Prop := ∃ (T : u_T) (ty0 : Nat → FieldType), zk_cl[ci]? = some (C, T, N) ∧ (∀ w ∈ u_ws C T N, w ∈ lw_all) ∧ (∀ j, j < N → parseFieldDescriptor (T j).2.2.1 = some (ty0 j)) ∧ Cond.instantiable C N ∈ lw_all ∧ Cond.initialized C ∈ lw_all ∧ ∀ j, j < N → defaultValue (ty0 j) = vp_V fs j
def zk_ca (ci : Nat) (nm : String) : Prop := ∃ r : vw_C, zk_cl[ci]? = some r ∧ (Cond.castable r.1 nm ∈ zk_nw ∨ r.1 = nm)
def zk_b (ty : FieldType) (x : Int32) : Prop := narrow ty (.int x) = .int x
section ZV5
variable {p : Program} {l : Launch} {e : Env} {R : Room} {s : State} {m : MethodId} {args : Array Value} {below : List Frame} {meth : Method} {c : Code} {D : zk_G} {g : zk_M} {b0 nL cells slots mc ms : Nat} {Q : State → Prop} {P : zk_H} {pc : Nat} {L : List (Nat × Value)} {st rest : List Value} {cc : ByteArray} {own nm : String} {ret : Option FieldType}
theorem zv_new (X : zk_X p s m args meth c D g b0 cc nL own nm ret) {C : String} {ci index N : Nat} {fs : List Value} {K : Nat → zk_H → Prop} (hN : zk_nc ci C N fs) (ql : Cond.classLink own index C ∈ lw_all) (hcells : cells + 1 ≤ R.cells) (hslots : slots + N ≤ R.slots) (d : decode cc pc = .ok (.new index, 3)) (h : zn_o P ci fs K) (kk : ∀ (q : Nat) (P : zk_H), K q P → zV p l e R s m args below meth c D b0 nL (cells + 1) (slots + N) Q P (pc + 3) L (va_rf (some q) :: rest)) : zV p l e R s m args below meth c D b0 nL cells slots Q P pc L rest := fun H locs ls h1 h2 h3 => by
  obtain ⟨T, ty0, hc, hin, hty, qi, qn, hfs⟩ := hN
  have hKn := X.K.1.1 ci _ hc
  refine W.newcK X.1 X.2.1 X.2.2.2.1 (X.w ql) (X.w qi) (X.w qn) rfl d hcells hslots hKn.2.1 rfl fun H1 kC hkC e1 z1 o1 => ?_
  have hx : va_at D.1 zk_cl (H.size, .inr (ci, fs)) H1 := ⟨_, hc, (u_born ty0 X.2.2.2.2.1 hin hKn hkC e1 hty).to hfs⟩
  exact kk H.size _ (h H.size h1.none) H1 locs ls (h1.push ⟨hx, h1.1, trivial⟩ z1 o1) (zk_S.push h2 z1 o1) h3
theorem zv_newa (X : zk_X p s m args meth c D g b0 cc nL own nm ret) {atype : ArrayType} {ty : FieldType} {n : Int32} {z : (Nat → Int32) ⊕ (Nat → Int64) ⊕ (Nat → UInt32) ⊕ (Nat → UInt64) ⊕ (Nat → Option Nat)} {cap : Nat} {K : Nat → zk_H → Prop} (hty : newarray.typeOf atype = ty) (hok : ty ∈ zk_tys) (hRA : ∀ cA, va_RA s cA ty → s.vm.findClass ("[" ++ ty.toString) = some cA) (hz : ∀ j, defaultValue ty = zk_av z j) (qa : Cond.arrayClass ty ∈ lw_all) (hcap : cap * componentBytes ty ≤ 536870912) (hcells : cells + 1 ≤ R.cells) (hslots : slots + cap ≤ R.slots) (d : decode cc pc = .ok (.newarray atype, 2)) (h : zn_a P ty z n cap K) (kk : ∀ (q : Nat) (P : zk_H), K q P → zV p l e R s m args below meth c D b0 nL (cells + 1) (slots + cap) Q P (pc + 2) L (va_rf (some q) :: rest)) : zV p l e R s m args below meth c D b0 nL cells slots Q P pc L (.int n :: rest) := fun H locs ls h1 h2 h3 => by
  obtain ⟨hn, hle, hK⟩ := h
  subst hty
  have hb : n.toNatClampNeg * componentBytes (newarray.typeOf atype) ≤ 536870912 := Nat.le_trans (Nat.mul_le_mul_right _ hle) hcap
  refine va_newaK X.1 X.2.1 (X.w qa) rfl d rfl hn rfl hb hcells (by omega) rfl fun H1 cA e1 z1 o1 hAr hNm => ?_
  have hD : D.2 (newarray.typeOf atype) = cA := Option.some.inj ((hRA _ (X.K.2 _ hok).2).symm.trans hNm)
  have hx : va_at D.1 zk_cl (H.size, zk_v D (.inl (newarray.typeOf atype, n.toNatClampNeg, z))) H1 := by
    show H1[H.size]? = some (vp_cell (D.2 (newarray.typeOf atype)) (n.toNatClampNeg, z))
    rw [zk_cell, hD, e1]
    congr 2
    funext j
    exact hz j
  exact W.widen (k := cells + 1) (n := slots + cap) (Nat.le_refl _) (by omega) (kk H.size _ (hK H.size h1.none) H1 locs ls (h1.push ⟨hx, h1.1, hok⟩ z1 o1) (zk_S.push h2 z1 o1) h3)
theorem zv_newq (X : zk_X p s m args meth c D g b0 cc nL own nm ret) {C : String} {index : Nat} {n : Int32} {cap : Nat} {K : Nat → zk_H → Prop} (hok : FieldType.object C ∈ zk_tys) (ho : C ∈ zk_aos) (ql : Cond.classLink own index C ∈ lw_all) (hcap : cap * 4 ≤ 536870912) (hcells : cells + 1 ≤ R.cells) (hslots : slots + cap ≤ R.slots) (d : decode cc pc = .ok (.anewarray index, 3)) (h : zn_a P (.object C) (.inr (.inr (.inr (.inr (fun _ => none))))) n cap K) (kk : ∀ (q : Nat) (P : zk_H), K q P → zV p l e R s m args below meth c D b0 nL (cells + 1) (slots + cap) Q P (pc + 3) L (va_rf (some q) :: rest)) : zV p l e R s m args below meth c D b0 nL cells slots Q P pc L (.int n :: rest) := fun H locs ls h1 h2 h3 => by
  obtain ⟨hn, hle, hK⟩ := h
  refine W.anew X.1 X.2.1 X.2.2.2.1 (X.w ql) (va_AO.use (X.2.2.2.2.2.1.1.2.2.1 C ho)) rfl d rfl hn (by omega) hcells (by omega) fun cA kA comp f1 f2 f3 f4 => ?_
  generalize hH1 : H.push ({ cls := cA, slots := Array.replicate n.toNatClampNeg .null, vm := .none } : Cell) = H1
  have z1 : H1.size = H.size + 1 := by rw [← hH1, Array.size_push]
  have e1 : H1[H.size]? = some (arrV cA n.toNatClampNeg (fun _ => .null)) := by rw [← hH1, Array.getElem?_push_size, ← arrV_new]
  have o1 : ∀ q : Nat, q < H.size → H1[q]? = H[q]? := fun q hq => by rw [← hH1, Array.getElem?_push, if_neg (Nat.ne_of_lt hq)]
  have hD : D.2 (.object C) = cA := by
    obtain ⟨-, -, -, -, -, h4⟩ := (X.K.2 _ hok).2
    exact Option.some.inj (h4.symm.trans f1)
  have hx : va_at D.1 zk_cl (H.size, zk_v D (.inl (.object C, n.toNatClampNeg, .inr (.inr (.inr (.inr (fun _ => none))))))) H1 := by
    show H1[H.size]? = some (vp_cell (D.2 (.object C)) (n.toNatClampNeg, _))
    rw [vp_cell_q, hD, e1]
    rfl
  exact W.widen (k := cells + 1) (n := slots + cap) (Nat.le_refl _) (by omega) (kk H.size _ (hK H.size h1.none) H1 locs ls (h1.push ⟨hx, h1.1, hok⟩ z1 o1) (zk_S.push h2 z1 o1) h3)
theorem zk_recv (X : zk_X p s m args meth c D g b0 cc nL own nm ret) {H : Heap} {a : Nat} {t : Bool} {ci : Nat} {fs : List Value} {r : vw_C} (hP : zk_R D b0 P s H) (ha : P a = some (t, .inr (ci, fs))) (hc : zk_cl[ci]? = some r) : ∃ cell : Cell, H[a]? = some cell ∧ cell.vm.isStatics = false ∧ s.vm.findClass r.1 = some cell.cls := by
  obtain ⟨r2, cell, g1, g2, g3, g4, g5, g6⟩ := zk_at.obj X.K (hP.2 a t _ ha)
  have hr : r2 = r := Option.some.inj (g1.symm.trans hc)
  subst hr
  exact ⟨cell, g2, g4, g5⟩
theorem zv_cast (X : zk_X p s m args meth c D g b0 cc nL own nm ret) {r : Option Nat} {cs : List Nat} {index : Nat} {C : String} {K : Prop} (hC : ∀ ci ∈ cs, zk_ca ci C) (ql : Cond.classLink own index C ∈ lw_all) (d : decode cc pc = .ok (.checkcast index, 3)) (h : zc_c P r cs K) (kk : K → zV p l e R s m args below meth c D b0 nL cells slots Q P (pc + 3) L (va_rf r :: rest)) : zV p l e R s m args below meth c D b0 nL cells slots Q P pc L (va_rf r :: rest) := fun H locs ls h1 h2 h3 => by
  obtain ⟨h, hK⟩ := h
  rcases h with rfl | ⟨a, t, ci, fs, rfl, ha, hci⟩
  · exact lv_castN X.1 X.2.1 d (kk hK H locs ls h1 h2 h3)
  · obtain ⟨r, hc, hca⟩ := hC ci hci
    have hr := zk_recv X h1 ha hc
    rcases hca with hca | hca
    · exact va_castY X.1 X.2.1 X.2.2.2.1 (X.w ql) (X.nw hca) hr d (kk hK H locs ls h1 h2 h3)
    · subst hca
      exact va_castS X.1 X.2.1 X.2.2.2.1 (X.w ql) (X.K.1.1 ci _ hc).2 hr d (kk hK H locs ls h1 h2 h3)
theorem zv_inst (X : zk_X p s m args meth c D g b0 cc nL own nm ret) {r : Option Nat} {ys ns : List Nat} {index : Nat} {C : String} {K : Int32 → Prop} (hY : ∀ ci ∈ ys, zk_ca ci C) (hNo : ∀ ci ∈ ns, ∃ r, zk_cl[ci]? = some r ∧ va_Nc r.1 C s) (ql : Cond.classLink own index C ∈ lw_all) (d : decode cc pc = .ok (.instanceof index, 3)) (h : zc_i P r ys ns K) (kk : ∀ x : Int32, K x → zV p l e R s m args below meth c D b0 nL cells slots Q P (pc + 3) L (.int x :: rest)) : zV p l e R s m args below meth c D b0 nL cells slots Q P pc L (va_rf r :: rest) := fun H locs ls h1 h2 h3 => by
  rcases h with ⟨rfl, hK⟩ | ⟨a, t, ci, fs, rfl, ha, ⟨hci, hK⟩ | ⟨hci, hK⟩⟩
  · exact lv_instN X.1 X.2.1 d (kk _ hK H locs ls h1 h2 h3)
  · obtain ⟨r, hc, hca⟩ := hY ci hci
    have hr := zk_recv X h1 ha hc
    rcases hca with hca | hca
    · exact va_instY X.1 X.2.1 X.2.2.2.1 (X.w ql) (X.nw hca) hr d (kk _ hK H locs ls h1 h2 h3)
    · subst hca
      exact va_instS X.1 X.2.1 X.2.2.2.1 (X.w ql) (X.K.1.1 ci _ hc).2 hr d (kk _ hK H locs ls h1 h2 h3)
  · obtain ⟨r, hc, hn⟩ := hNo ci hci
    exact va_instNo X.1 X.2.1 X.2.2.2.1 (X.w ql) hn (zk_recv X h1 ha hc) d (kk _ hK H locs ls h1 h2 h3)
theorem zk_asg (X : zk_X p s m args meth c D g b0 cc nL own nm ret) {ci : Nat} {C : String} {r : vw_C} (hc : zk_cl[ci]? = some r) (hca : Cond.castable r.1 C ∈ zk_nw ∨ r.1 = C) {comp c0 : ClassId} (h1 : s.vm.findClass C = some comp) (h2 : s.vm.findClass r.1 = some c0) : s.vm.assignable c0 comp = true := by
  rcases hca with hca | hca
  · obtain ⟨x, t1, f1, f2, f3⟩ := Cond.castable_spec (va_Nw.use (A := #[]) rfl (X.nw hca))
    cases h1.symm.trans f2
    cases h2.symm.trans f1
    exact f3
  · subst hca
    cases h1.symm.trans h2
    have h3 := (X.K.1.1 ci _ hc).2
    cases h3.1.symm.trans h1
    exact va_assign h3
theorem zv_aast (X : zk_X p s m args meth c D g b0 cc nL own nm ret) {r x : Option Nat} {i : Int32} {K : zk_H → Prop} (hM : ∀ (C : String) (ci : Nat), ci ∈ zk_may C → zk_ca ci C) (d : decode cc pc = .ok (.aastore, 1)) (h : zs_r P r i x K) (kk : ∀ P : zk_H, K P → zV p l e R s m args below meth c D b0 nL cells slots Q P (pc + 1) L rest) : zV p l e R s m args below meth c D b0 nL cells slots Q P pc L (va_rf x :: .int i :: va_rf r :: rest) := fun H locs ls h1 h2 h3 => by
  obtain ⟨a, C, n, f, rfl, ha, hin, hx, hK⟩ := h
  obtain ⟨g1, g2, g3⟩ := zk_ar X h1 ha
  have hlt : i.toNatClampNeg < n := Nat.not_le.mp fun q => hin (Or.inr q)
  have h0 : ¬ i < 0 := fun q => hin (Or.inl q)
  have fin : ∀ H1 : Heap, H1[a]? = some ((arrV (D.2 (.object C)) n (zk_av (.inr (.inr (.inr (.inr f)))))).setSlot i.toNatClampNeg (va_rf x)) → H1.size = H.size → (∀ q : Nat, q ≠ a → H1[q]? = H[q]?) → W p l e R s m args below meth c H1 (locs ++ [⟨a, i.toNatClampNeg⟩]) cells slots Q (F0 m (pc + 1) ls rest) := by
    intro H1 e1 z oq
    obtain ⟨r1, r2⟩ := zk_sto (z' := .inr (.inr (.inr (.inr (va_up f i.toNatClampNeg x))))) h1 ha e1 (fun j => by by_cases hj : j = i.toNatClampNeg <;> simp [updV, va_up, zk_av, hj]) z oq h2
    exact kk _ hK H1 _ ls r1 r2 h3
  rcases hx with rfl | ⟨b, t, ci, fs, rfl, hb, hci⟩
  · exact va_WaastN X.1 X.2.1 g1 g2 (fun q => by cases q) (by rw [arrV_size]; exact hin) rfl rfl d fin
  · obtain ⟨r, hc, hca⟩ := hM C ci hci
    obtain ⟨cellV, k1, k2, k3⟩ := zk_recv X h1 hb hc
    obtain ⟨kA, comp, f1, f2, f3, -⟩ := g3
    have hcls := (X.K.1.1 ci r hc).2
    have hcv : cellV.cls = D.1.1 ci := Option.some.inj (k3.symm.trans hcls.1)
    obtain ⟨kC, hkC, -⟩ := hcls.2
    obtain ⟨kcomp, hkcomp, -⟩ := Vm.findClass_spec f3
    exact W.aast X.1 X.2.1 g1 (fun q h => by cases h) (fun h => by cases h) f1 f2 rfl hkcomp ⟨h0, by rw [arrV_size]; exact hlt⟩ k1 (fun q h => by rw [h] at k2; cases k2) (by rw [hcv]; exact hkC) (zk_asg X hc hca f3 k3) rfl rfl d fin
/-! ends: the post, over the heap that is left -/
theorem zk_end {H : Heap} (h1 : zk_R D b0 P s H) {t : State} (ht : t.heap = H) (hW : s.WarmedH t.vm) : zk_B D b0 P t := by
  show zk_R D b0 P t t.heap
  rw [ht]
  exact h1.moved hW.alike
theorem zv_iret (X : zk_X p s m args meth c D g b0 cc nL own nm ret) {x : Int32} {post : Int32 → zk_H → Prop} (hret : ret = some .int) (hc : cells ≤ mc) (hs : slots ≤ ms) (d : decode cc pc = .ok (.ireturn, 1)) (h : post x P) : zV p l e R s m args below meth c D b0 nL cells slots (MQ below (va_Qi post (zk_B D b0) (zk_A b0)) args s mc ms (zk_A b0)) P pc L [.int x] := fun H locs ls h1 h2 h3 => W.widen hc hs (W.iret X.1 X.2.1 (X.2.2.2.2.2.2.1.trans hret) (fun t ht hW => ⟨⟨x, P, rfl, h, zk_end h1 ht hW⟩, h2.F ht⟩) h2.2.2 d X.2.2.2.2.2.2.2.1)
theorem zv_zret (X : zk_X p s m args meth c D g b0 cc nL own nm ret) {x : Int32} {ty : FieldType} {post : Int32 → zk_H → Prop} (hret : ret = some ty) (hc : cells ≤ mc) (hs : slots ≤ ms) (d : decode cc pc = .ok (.ireturn, 1)) (h : zk_b ty x ∧ post x P) : zV p l e R s m args below meth c D b0 nL cells slots (MQ below (va_Qi post (zk_B D b0) (zk_A b0)) args s mc ms (zk_A b0)) P pc L [.int x] := fun H locs ls h1 h2 h3 => W.widen hc hs (W.zret X.1 X.2.1 (X.2.2.2.2.2.2.1.trans hret) h.1 (fun t ht hW => ⟨⟨x, P, rfl, h.2, zk_end h1 ht hW⟩, h2.F ht⟩) h2.2.2 d X.2.2.2.2.2.2.2.1)
theorem zv_vret (X : zk_X p s m args meth c D g b0 cc nL own nm ret) {post : zk_H → Prop} (hret : ret = none) (hc : cells ≤ mc) (hs : slots ≤ ms) (d : decode cc pc = .ok (.return_, 1)) (h : post P) : zV p l e R s m args below meth c D b0 nL cells slots (MQ below (va_Qv post (zk_B D b0) (zk_A b0)) args s mc ms (zk_A b0)) P pc L [] := fun H locs ls h1 h2 h3 => W.widen hc hs (W.vret X.1 X.2.1 (X.2.2.2.2.2.2.1.trans hret) (fun t ht hW => ⟨⟨P, rfl, h, zk_end h1 ht hW⟩, h2.F ht⟩) h2.2.2 d X.2.2.2.2.2.2.2.1)
theorem zv_fret (X : zk_X p s m args meth c D g b0 cc nL own nm ret) {x : UInt32} {post : UInt32 → zk_H → Prop} (hret : ret = some .float) (hc : cells ≤ mc) (hs : slots ≤ ms) (d : decode cc pc = .ok (.freturn, 1)) (h : post x P) : zV p l e R s m args below meth c D b0 nL cells slots (MQ below (va_Qf post (zk_B D b0) (zk_A b0)) args s mc ms (zk_A b0)) P pc L [.float x] := fun H locs ls h1 h2 h3 => W.widen hc hs (W.fret X.1 X.2.1 (X.2.2.2.2.2.2.1.trans hret) (fun t ht hW => ⟨⟨x, P, rfl, h, zk_end h1 ht hW⟩, h2.F ht⟩) h2.2.2 d X.2.2.2.2.2.2.2.1)
theorem zv_dret (X : zk_X p s m args meth c D g b0 cc nL own nm ret) {x : UInt64} {post : UInt64 → zk_H → Prop} (hret : ret = some .double) (hc : cells ≤ mc) (hs : slots ≤ ms) (d : decode cc pc = .ok (.dreturn, 1)) (h : post x P) : zV p l e R s m args below meth c D b0 nL cells slots (MQ below (va_Qd post (zk_B D b0) (zk_A b0)) args s mc ms (zk_A b0)) P pc L [.double x] := fun H locs ls h1 h2 h3 => W.widen hc hs (W.dret X.1 X.2.1 (X.2.2.2.2.2.2.1.trans hret) (fun t ht hW => ⟨⟨x, P, rfl, h, zk_end h1 ht hW⟩, h2.F ht⟩) h2.2.2 d X.2.2.2.2.2.2.2.1)
theorem zv_aret (X : zk_X p s m args meth c D g b0 cc nL own nm ret) {x : Option Nat} {ty : FieldType} {post : Option Nat → zk_H → Prop} (hret : ret = some ty) (hty : (∃ n, ty = .object n) ∨ ∃ t, ty = .array t) (hc : cells ≤ mc) (hs : slots ≤ ms) (d : decode cc pc = .ok (.areturn, 1)) (h : post x P) : zV p l e R s m args below meth c D b0 nL cells slots (MQ below (va_Qq post (zk_B D b0) (zk_A b0)) args s mc ms (zk_A b0)) P pc L [va_rf x] := fun H locs ls h1 h2 h3 => W.widen hc hs (W.aret X.1 X.2.1 (X.2.2.2.2.2.2.1.trans hret) hty (va_rf_or x) (fun t ht hW => ⟨⟨x, P, rfl, h, zk_end h1 ht hW⟩, h2.F ht⟩) h2.2.2 d X.2.2.2.2.2.2.2.1)
/-! calls: the run, of each kind -/
def zRun (p : Program) (l : Launch) (e : Env) (R : Room) (s : State) (m : MethodId) (args : Array Value) (below : List Frame) (meth : Method) (c : Code) (D : zk_G) (b0 nL cells slots mc ms : Nat) (P : zk_H) (pc : Nat) (L : List (Nat × Value)) (st rest : List Value) (Qa : State → Outcome → State → Prop) : Prop :=
  ∀ (H : Heap) (locs : List Loc) (ls : Array Slot), zk_R D b0 P s H → va_S (zk_A b0) s.heap H locs → lv_has ls nL L → va_Run p l e R s m args below meth c H locs cells slots mc ms (F0 m pc ls st) rest Qa (zk_A b0)
def zRun5 (p : Program) (l : Launch) (e : Env) (R : Room) (s : State) (m : MethodId) (args : Array Value) (below : List Frame) (meth : Method) (c : Code) (D : zk_G) (b0 nL cells slots mc ms : Nat) (P : zk_H) (pc : Nat) (L : List (Nat × Value)) (st rest : List Value) (Qa : State → Outcome → State → Prop) : Prop :=
  ∀ (H : Heap) (locs : List Loc) (ls : Array Slot), zk_R D b0 P s H → va_S (zk_A b0) s.heap H locs → lv_has ls nL L → va_Run5 p l e R s m args below meth c H locs cells slots mc ms (F0 m pc ls st) rest Qa (zk_A b0)
theorem zk_X.fix (X : zk_X p s m args meth c D g b0 cc nL own nm ret) : CallFix p m c cc nL s args lw_all own := ⟨X.1, X.2.1, X.2.2.1, X.2.2.2.1, X.2.2.2.2.1⟩
theorem zk_X.pre (X : zk_X p s m args meth c D g b0 cc nL own nm ret) {H : Heap} {locs : List Loc} {As : List Value} (h1 : zk_R D b0 P s H) (h2 : va_S (zk_A b0) s.heap H locs) (U : State) (hU : U.heap = H) (hW : s.WarmedH U.vm) : va_Pc As (zk_pre D g b0 P) As.toArray U := by
  refine ⟨rfl, ?_, ?_⟩
  · rw [hU]
    exact X.2.2.2.2.2.1.warm hW ⟨h2.1, h2.2.1⟩
  · rw [hU]
    exact h1.moved hW.alike
theorem zr_S (X : zk_X p s m args meth c D g b0 cc nL own nm ret) {y : MethodName} {bytes : ByteArray} {maxL index n : Nat} {rt : Option FieldType} {rm : Room} {As : List Value} {Qc : Array Value → State → Outcome → State → Prop} (hM : Met l y (ws_ y bytes maxL rt) rm (va_Pc As (zk_pre D g b0 P)) Qc mc ms (zk_A b0)) (cw : CallB R s args own index y bytes maxL rt (ws_ y bytes maxL rt) rm mc ms n ∧ (Cond.static y).before args s = true) (hn : As.length = n) (hst : st = As.reverse ++ rest) (hW : (rest.map fun v => v.category).sum ≤ 8) (d : decode cc pc = .ok (.invokestatic index, 3)) (hf : cells + mc ≤ R.cells ∧ slots + ms ≤ R.slots) : ∃ av : Array Value, zRun p l e R s m args below meth c D b0 nL cells slots mc ms P pc L st rest (Qc av) := ⟨_, fun H locs ls h1 h2 h3 => va_runS X.fix hM cw ⟨zk_pre.blind, X.pre h1 h2⟩ rfl hn h3.1 hst (lv_room hW) d hf⟩
theorem zr_V (X : zk_X p s m args meth c D g b0 cc nL own nm ret) {y : MethodName} {bytes : ByteArray} {maxL index n a ci : Nat} {t : Bool} {fs : List Value} {r : vw_C} {rt : Option FieldType} {rm : Room} {As : List Value} {Qc : Array Value → State → Outcome → State → Prop} (hM : Met l y (ws_ y bytes maxL rt) rm (va_Pc (.ref a :: As) (zk_pre D g b0 P)) Qc mc ms (zk_A b0)) (ha : P a = some (t, .inr (ci, fs))) (hc : zk_cl[ci]? = some r) (cw : CallW R s args own r.1 index y bytes maxL rt (ws_ y bytes maxL rt) rm mc ms n) (hn : As.length = n) (hst : st = As.reverse ++ .ref a :: rest) (hW : (rest.map fun v => v.category).sum ≤ 8) (d : decode cc pc = .ok (.invokevirtual index, 3)) (hf : cells + mc ≤ R.cells ∧ slots + ms ≤ R.slots) : ∃ av : Array Value, zRun p l e R s m args below meth c D b0 nL cells slots mc ms P pc L st rest (Qc av) := ⟨_, fun H locs ls h1 h2 h3 => va_runV X.fix hM cw ⟨zk_pre.blind, zk_recv X h1 ha hc, X.pre h1 h2⟩ rfl hn h3.1 hst (lv_room hW) d hf⟩
theorem zr_U (X : zk_X p s m args meth c D g b0 cc nL own nm ret) {x y : MethodName} {owner : String} {bytes : ByteArray} {maxL index n a ci : Nat} {t : Bool} {fs : List Value} {r : vw_C} {rt : Option FieldType} {rm : Room} {As : List Value} {Qc : Array Value → State → Outcome → State → Prop} (hM : Met l y (ws_ y bytes maxL rt) rm (va_Pc (.ref a :: As) (zk_pre D g b0 P)) Qc mc ms (zk_A b0)) (ha : P a = some (t, .inr (ci, fs))) (hc : zk_cl[ci]? = some r) (cw : va_CU R s args own r.1 owner index x y bytes maxL rt (ws_ y bytes maxL rt) rm mc ms n) (hn : As.length = n) (hst : st = As.reverse ++ .ref a :: rest) (hW : (rest.map fun v => v.category).sum ≤ 8) (d : decode cc pc = .ok (.invokevirtual index, 3)) (hf : cells + mc ≤ R.cells ∧ slots + ms ≤ R.slots) : ∃ av : Array Value, zRun p l e R s m args below meth c D b0 nL cells slots mc ms P pc L st rest (Qc av) := ⟨_, fun H locs ls h1 h2 h3 => va_runU X.fix hM cw ⟨zk_pre.blind, zk_recv X h1 ha hc, X.pre h1 h2⟩ rfl hn h3.1 hst (lv_room hW) d hf⟩
theorem zr_I (X : zk_X p s m args meth c D g b0 cc nL own nm ret) {y : MethodName} {bytes : ByteArray} {maxL index n a : Nat} {rm : Room} {As : List Value} {Qc : Array Value → State → Outcome → State → Prop} (hM : Met l y (ws_ y bytes maxL none) rm (va_Pc (.ref a :: As) (zk_pre D g b0 P)) Qc mc ms (zk_A b0)) (cw : CallB R s args own index y bytes maxL none (ws_ y bytes maxL none) rm mc ms n ∧ y.name = "<init>" ∧ (Cond.instanceMethod y).before args s = true) (hn : As.length = n) (hst : st = As.reverse ++ .ref a :: rest) (hW : (rest.map fun v => v.category).sum ≤ 8) (d : decode cc pc = .ok (.invokespecial index, 3)) (hf : cells + mc ≤ R.cells ∧ slots + ms ≤ R.slots) : ∃ av : Array Value, zRun p l e R s m args below meth c D b0 nL cells slots mc ms P pc L st rest (Qc av) := ⟨_, fun H locs ls h1 h2 h3 => va_runI X.fix hM cw ⟨zk_pre.blind, X.pre h1 h2⟩ rfl hn h3.1 hst (lv_room hW) d hf⟩
theorem zr_F (X : zk_X p s m args meth c D g b0 cc nL own nm ret) {x y : MethodName} {bytes : ByteArray} {maxL index count n a ci : Nat} {t : Bool} {fs : List Value} {r : vw_C} {rt : Option FieldType} {rm : Room} {As : List Value} {Qc : Array Value → State → Outcome → State → Prop} (hM : Met l y (ws_ y bytes maxL rt) rm (va_Pc (.ref a :: As) (zk_pre D g b0 P)) Qc mc ms (zk_A b0)) (ha : P a = some (t, .inr (ci, fs))) (hc : zk_cl[ci]? = some r) (cw : va_CI R s args own r.1 index x y bytes maxL rt (ws_ y bytes maxL rt) rm mc ms n) (hn : As.length = n) (hst : st = As.reverse ++ .ref a :: rest) (hW : (rest.map fun v => v.category).sum ≤ 8) (d : decode cc pc = .ok (.invokeinterface index count, 5)) (hf : cells + mc ≤ R.cells ∧ slots + ms ≤ R.slots) : ∃ av : Array Value, zRun5 p l e R s m args below meth c D b0 nL cells slots mc ms P pc L st rest (Qc av) := ⟨_, fun H locs ls h1 h2 h3 => va_runF (X.K.1.1 ci r hc).2 X.fix hM cw ⟨zk_pre.blind, zk_recv X h1 ha hc, X.pre h1 h2⟩ rfl hn h3.1 hst (lv_room hW) d hf⟩
theorem zk_back {t : State} {H1 : Heap} {u : zk_H} (hB : zk_B D b0 u t) (ht : t.heap = H1) (hvm : s.vm.Alike t.vm) : zk_R D b0 u s H1 := by
  subst ht
  exact zk_R.moved hvm.symm hB
theorem zv_ci {post : Int32 → zk_H → Prop} (hr : ∃ av : Array Value, zRun p l e R s m args below meth c D b0 nL cells slots mc ms P pc L st rest (va_Qi post (zk_B D b0) (zk_A b0) av)) (kk : ∀ (x : Int32) (P : zk_H), post x P → zV p l e R s m args below meth c D b0 nL (cells + mc) (slots + ms) Q P (pc + 3) L (.int x :: rest)) : zV p l e R s m args below meth c D b0 nL cells slots Q P pc L st := fun H locs ls h1 h2 h3 => va_calli (hr.choose_spec H locs ls h1 h2 h3) h2 (fun q _ h => h) (fun q h => h) (fun x u t H1 locs1 ht hvm hp hB hz hk hS => kk x u hp H1 locs1 ls (zk_back hB ht hvm) hS h3)
theorem zv_cf {post : UInt32 → zk_H → Prop} (hr : ∃ av : Array Value, zRun p l e R s m args below meth c D b0 nL cells slots mc ms P pc L st rest (va_Qf post (zk_B D b0) (zk_A b0) av)) (kk : ∀ (x : UInt32) (P : zk_H), post x P → zV p l e R s m args below meth c D b0 nL (cells + mc) (slots + ms) Q P (pc + 3) L (.float x :: rest)) : zV p l e R s m args below meth c D b0 nL cells slots Q P pc L st := fun H locs ls h1 h2 h3 => va_callf (hr.choose_spec H locs ls h1 h2 h3) h2 (fun q _ h => h) (fun q h => h) (fun x u t H1 locs1 ht hvm hp hB hz hk hS => kk x u hp H1 locs1 ls (zk_back hB ht hvm) hS h3)
theorem zv_cd {post : UInt64 → zk_H → Prop} (hr : ∃ av : Array Value, zRun p l e R s m args below meth c D b0 nL cells slots mc ms P pc L st rest (va_Qd post (zk_B D b0) (zk_A b0) av)) (kk : ∀ (x : UInt64) (P : zk_H), post x P → zV p l e R s m args below meth c D b0 nL (cells + mc) (slots + ms) Q P (pc + 3) L (.double x :: rest)) : zV p l e R s m args below meth c D b0 nL cells slots Q P pc L st := fun H locs ls h1 h2 h3 => va_calld (hr.choose_spec H locs ls h1 h2 h3) h2 (fun q _ h => h) (fun q h => h) (fun x u t H1 locs1 ht hvm hp hB hz hk hS => kk x u hp H1 locs1 ls (zk_back hB ht hvm) hS h3)
theorem zv_cv {post : zk_H → Prop} (hr : ∃ av : Array Value, zRun p l e R s m args below meth c D b0 nL cells slots mc ms P pc L st rest (va_Qv post (zk_B D b0) (zk_A b0) av)) (kk : ∀ (P : zk_H), post P → zV p l e R s m args below meth c D b0 nL (cells + mc) (slots + ms) Q P (pc + 3) L rest) : zV p l e R s m args below meth c D b0 nL cells slots Q P pc L st := fun H locs ls h1 h2 h3 => va_callv (hr.choose_spec H locs ls h1 h2 h3) h2 (fun q _ h => h) (fun q h => h) (fun u t H1 locs1 ht hvm hp hB hz hk hS => kk u hp H1 locs1 ls (zk_back hB ht hvm) hS h3)
theorem zv_cq {post : Option Nat → zk_H → Prop} (hr : ∃ av : Array Value, zRun p l e R s m args below meth c D b0 nL cells slots mc ms P pc L st rest (va_Qq post (zk_B D b0) (zk_A b0) av)) (kk : ∀ (x : Option Nat) (P : zk_H), post x P → zV p l e R s m args below meth c D b0 nL (cells + mc) (slots + ms) Q P (pc + 3) L (va_rf x :: rest)) : zV p l e R s m args below meth c D b0 nL cells slots Q P pc L st := fun H locs ls h1 h2 h3 => va_callq (hr.choose_spec H locs ls h1 h2 h3) h2 (fun q _ h => h) (fun q h => h) (fun x u t H1 locs1 ht hvm hp hB hz hk hS => kk x u hp H1 locs1 ls (zk_back hB ht hvm) hS h3)
theorem zv_ci5 {post : Int32 → zk_H → Prop} (hr : ∃ av : Array Value, zRun5 p l e R s m args below meth c D b0 nL cells slots mc ms P pc L st rest (va_Qi post (zk_B D b0) (zk_A b0) av)) (kk : ∀ (x : Int32) (P : zk_H), post x P → zV p l e R s m args below meth c D b0 nL (cells + mc) (slots + ms) Q P (pc + 5) L (.int x :: rest)) : zV p l e R s m args below meth c D b0 nL cells slots Q P pc L st := fun H locs ls h1 h2 h3 => va_callFi (hr.choose_spec H locs ls h1 h2 h3) h2 (fun q _ h => h) (fun q h => h) (fun x u t H1 locs1 ht hvm hp hB hz hk hS => kk x u hp H1 locs1 ls (zk_back hB ht hvm) hS h3)
theorem zv_cq5 {post : Option Nat → zk_H → Prop} (hr : ∃ av : Array Value, zRun5 p l e R s m args below meth c D b0 nL cells slots mc ms P pc L st rest (va_Qq post (zk_B D b0) (zk_A b0) av)) (kk : ∀ (x : Option Nat) (P : zk_H), post x P → zV p l e R s m args below meth c D b0 nL (cells + mc) (slots + ms) Q P (pc + 5) L (va_rf x :: rest)) : zV p l e R s m args below meth c D b0 nL cells slots Q P pc L st := fun H locs ls h1 h2 h3 => va_callFq (hr.choose_spec H locs ls h1 h2 h3) h2 (fun q _ h => h) (fun q h => h) (fun x u t H1 locs1 ht hvm hp hB hz hk hS => kk x u hp H1 locs1 ls (zk_back hB ht hvm) hS h3)
end ZV5
