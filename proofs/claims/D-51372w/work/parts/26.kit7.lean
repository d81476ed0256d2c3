/-! OUR KIT 7: constants, native members, casts of arrays, calls of nest mates and overriding methods -/
def zy_b (P : zk_H) (src : Option Nat) (sp : Int32) (dst : Option Nat) (dp n : Int32) (K : zk_H → Prop) : Prop := ∃ (a b : Nat) (t : Bool) (na nb : Nat) (f h : Nat → Int32), src = some a ∧ dst = some b ∧ P a = some (t, .inl (.byte, na, .inl f)) ∧ P b = some (true, .inl (.byte, nb, .inl h)) ∧ ¬ sp < 0 ∧ ¬ dp < 0 ∧ ¬ n < 0 ∧ sp.toNatClampNeg + n.toNatClampNeg ≤ na ∧ dp.toNatClampNeg + n.toNatClampNeg ≤ nb ∧ (∀ i, i < n.toNatClampNeg → fits .byte (.int (f (sp.toNatClampNeg + i))) = true) ∧ K (zk_u P b (.inl (.byte, nb, .inl (va_cpy f h sp.toNatClampNeg dp.toNatClampNeg n.toNatClampNeg))))
def zy_q (P : zk_H) (src : Option Nat) (sp : Int32) (dst : Option Nat) (dp n : Int32) (K : zk_H → Prop) : Prop := ∃ (a b : Nat) (t : Bool) (E0 E1 : String) (na nb : Nat) (f h : Nat → Option Nat), src = some a ∧ dst = some b ∧ P a = some (t, .inl (.object E0, na, .inr (.inr (.inr (.inr f))))) ∧ P b = some (true, .inl (.object E1, nb, .inr (.inr (.inr (.inr h))))) ∧ ¬ sp < 0 ∧ ¬ dp < 0 ∧ ¬ n < 0 ∧ sp.toNatClampNeg + n.toNatClampNeg ≤ na ∧ dp.toNatClampNeg + n.toNatClampNeg ≤ nb ∧ (∀ i, i < n.toNatClampNeg → ∀ y, f (sp.toNatClampNeg + i) = some y → ∃ (t2 : Bool) (ci : Nat) (fs : List Value), P y = some (t2, .inr (ci, fs)) ∧ ci ∈ zk_may E1) ∧ K (zk_u P b (.inl (.object E1, nb, .inr (.inr (.inr (.inr (va_cpy f h sp.toNatClampNeg dp.toNatClampNeg n.toNatClampNeg)))))))
def zy_c (P : zk_H) (r : Option Nat) (K : Prop) : Prop := (∃ (a : Nat) (t : Bool) (x : vp_A), r = some a ∧ P a = some (t, .inl (.object "java/lang/Object", x))) ∧ K
def zy_k (P : zk_H) (r : Option Nat) (ty : FieldType) (cap : Nat) (K : Nat → zk_H → Prop) : Prop := ∃ (a : Nat) (t : Bool) (n : Nat) (z : (Nat → Int32) ⊕ (Nat → Int64) ⊕ (Nat → UInt32) ⊕ (Nat → UInt64) ⊕ (Nat → Option Nat)), r = some a ∧ P a = some (t, .inl (ty, n, z)) ∧ (∀ j, fits ty (zk_av z j) = true) ∧ n ≤ cap ∧ ∀ q, P q = none → K q (zk_u P q (.inl (ty, n, z)))
def zc_a (P : zk_H) (r : Option Nat) (ty : FieldType) (K : Prop) : Prop := (∃ (a : Nat) (t : Bool) (x : vp_A), r = some a ∧ P a = some (t, .inl (ty, x))) ∧ K
theorem zk_ac1 : Cond.native arraycopyName ∈ lw_all := q293
theorem zk_ac2 : Cond.static arraycopyName ∈ lw_all := q292
theorem zk_ac3 : Cond.initialized "java/lang/System" ∈ lw_all := q110
section ZV7
variable {p : Program} {l : Launch} {e : Env} {R : Room} {s : State} {m : MethodId} {args : Array Value} {below : List Frame} {meth : Method} {c : Code} {D : zk_G} {g : zk_M} {b0 nL cells slots mc ms : Nat} {Q : State → Prop} {P : zk_H} {pc : Nat} {L : List (Nat × Value)} {st rest : List Value} {cc : ByteArray} {own nm : String} {ret : Option FieldType}
theorem zv_gets (X : zk_X p s m args meth c D g b0 cc nL own nm ret) {i index : Nat} {C n d0 ref : String} {v : Value} (hi : (zk_sts g)[i]? = some (C, n, d0, v)) (ql : Cond.fieldLink own index ref n d0 ∈ lw_all) (hs : C = ref) (d : decode cc pc = .ok (.getstatic index, 3)) (k : zV p l e R s m args below meth c D b0 nL cells slots Q P (pc + 3) L (v :: rest)) : zV p l e R s m args below meth c D b0 nL cells slots Q P pc L rest := fun H locs ls h1 h2 h3 => va_gets X.1 X.2.1 (X.2.2.2.2.2.1.2.1 _ (List.mem_of_getElem? hi)) h2 X.2.2.2.1 (X.w ql) (fun x hx => by rw [← hs]; exact hx) d (k H locs ls h1 h2 h3)
theorem zv_ldcS (X : zk_X p s m args meth c D g b0 cc nL own nm ret) {i index a : Nat} {tx : String} (hi : (zk_strs g)[i]? = some (own, tx, index, a)) (d : decode cc pc = .ok (.ldc index, 2)) (k : zV p l e R s m args below meth c D b0 nL cells slots Q P (pc + 2) L (va_rf (some a) :: rest)) : zV p l e R s m args below meth c D b0 nL cells slots Q P pc L rest := fun H locs ls h1 h2 h3 => va_ldcS X.1 X.2.1 X.2.2.2.1 (X.2.2.2.2.2.1.1.2.2.2.2.1 _ (List.mem_of_getElem? hi)) d (k H locs ls h1 h2 h3)
theorem zk_X.mi (X : zk_X p s m args meth c D g b0 cc nL own nm ret) : va_Mi "[Ljava/lang/Object;" (g 25) s := X.2.2.2.2.2.1.1.2.2.2.2.2.2.1
theorem zv_ldcM (X : zk_X p s m args meth c D g b0 cc nL own nm ret) {index : Nat} {C : String} (ql : Cond.classLink own index C ∈ lw_all) (hC : C = "[Ljava/lang/Object;") (d : decode cc pc = .ok (.ldc index, 2)) (k : zV p l e R s m args below meth c D b0 nL cells slots Q P (pc + 2) L (va_rf (some (g 25)) :: rest)) : zV p l e R s m args below meth c D b0 nL cells slots Q P pc L rest := fun H locs ls h1 h2 h3 => va_ldcM X.1 X.2.1 X.2.2.2.1 (X.w ql) (by rw [hC]; exact X.mi) d (k H locs ls h1 h2 h3)
theorem zk_nost {v : VmData} (h : ∀ q, v ≠ .statics q) : v.isStatics = false := by
  cases v <;> first | rfl | exact absurd rfl (h _)
theorem zv_getC (X : zk_X p s m args meth c D g b0 cc nL own nm ret) {r : Option Nat} {index : Nat} {K : Prop} (ql : Cond.methodLink own index ⟨"java/lang/Object", "getClass", "()Ljava/lang/Class;"⟩ ∈ lw_all) (hR : 1 ≤ R.frames ∧ 22 ≤ R.locals) (hl : (rest.map fun v => v.category).sum ≤ 8) (d : decode cc pc = .ok (.invokevirtual index, 3)) (h : zy_c P r K) (k : K → zV p l e R s m args below meth c D b0 nL cells slots Q P (pc + 3) L (va_rf (some (g 25)) :: rest)) : zV p l e R s m args below meth c D b0 nL cells slots Q P pc L (va_rf r :: rest) := fun H locs ls h1 h2 h3 => by
  obtain ⟨⟨a, t, x, rfl, ha⟩, hK⟩ := h
  obtain ⟨cell, g1, g2, g3, g4, g5, g6⟩ := zk_at.arr X.K (h1.2 a t _ ha)
  have e : "[" ++ (FieldType.object "java/lang/Object").toString = "[Ljava/lang/Object;" := by decide +kernel
  rw [e] at g6
  exact va_getC X.1 X.2.1 (X.2.2.1.trans h3.1.symm) X.2.2.2.1 (X.w ql) (va_Nw.use rfl (X.nw (zk_nwm q2651 rfl))) (X.w q2650) (X.w q255) (X.w q281) X.mi ⟨cell, g1, zk_nost g2.1, g6⟩ hR.1 (by omega) d (k hK H locs ls h1 h2 h3)
theorem zv_castA (X : zk_X p s m args meth c D g b0 cc nL own nm ret) {r : Option Nat} {index : Nat} {C : String} {ty : FieldType} {K : Prop} (hC : "[" ++ ty.toString = C) (ql : Cond.classLink own index C ∈ lw_all) (d : decode cc pc = .ok (.checkcast index, 3)) (h : zc_a P r ty K) (k : K → zV p l e R s m args below meth c D b0 nL cells slots Q P (pc + 3) L (va_rf r :: rest)) : zV p l e R s m args below meth c D b0 nL cells slots Q P pc L (va_rf r :: rest) := fun H locs ls h1 h2 h3 => by
  obtain ⟨⟨a, t, x, rfl, ha⟩, hK⟩ := h
  obtain ⟨cell, g1, g2, g3, g4, g5, g6⟩ := zk_at.arr X.K (h1.2 a t _ ha)
  rw [hC] at g6
  intro T hT S
  obtain ⟨vm', X', st⟩ := S.checkcastYes X.1 X.2.2.2.1 (X.w ql) (by rw [hT]; exact g1) (zk_nost g2.1) g6 (va_asg _ _) (g := F0 m pc ls (.ref a :: rest)) rfl rfl (by rw [X.2.1]; exact d)
  obtain ⟨t, a1, b1⟩ := k hK H locs ls h1 h2 h3 (T.setVm vm') hT X'
  exact ⟨t, st t a1, b1⟩
theorem zk_mk (z : (Nat → Int32) ⊕ (Nat → Int64) ⊕ (Nat → UInt32) ⊕ (Nat → UInt64) ⊕ (Nat → Option Nat)) {cA : ClassId} {cell : Cell} {n : Nat} (h1 : cell.cls = cA) (h2 : cell.slots.size = n) (h3 : ∀ j : Nat, j < n → cell.slots[j]? = some (zk_av z j)) : ({ cls := cell.cls, slots := cell.slots } : Cell) = vp_cell cA (n, z) := by
  rw [zk_cell, h1]
  unfold arrV
  congr 1
  apply Array.ext
  · rw [h2, Array.size_ofFn]
  · intro i hi hi2
    have h4 := h3 i (by rw [← h2]; exact hi)
    rw [Array.getElem?_eq_getElem hi] at h4
    rw [Array.getElem_ofFn]
    exact Option.some.inj h4
theorem zv_clone (X : zk_X p s m args meth c D g b0 cc nL own nm ret) {r : Option Nat} {index cap : Nat} {ad : String} {ty : FieldType} {K : Nat → zk_H → Prop} (hC : "[" ++ ty.toString = ad) (hok : ty ∈ zk_tys) (ql : Cond.methodLink own index ⟨ad, "clone", "()Ljava/lang/Object;"⟩ ∈ lw_all) (qs : Cond.sameMethod ad "java/lang/Object" "clone" "()Ljava/lang/Object;" ∈ lw_all) (qe : Cond.selects ad ⟨ad, "clone", "()Ljava/lang/Object;"⟩ ⟨"java/lang/Object", "clone", "()Ljava/lang/Object;"⟩ ∈ lw_all) (qc : Cond.castable ad "java/lang/Cloneable" ∈ zk_nw) (hR : 1 ≤ R.frames ∧ 22 ≤ R.locals) (hl : (rest.map fun v => v.category).sum ≤ 8) (hcells : cells + 1 ≤ R.cells) (hslots : slots + cap ≤ R.slots) (d : decode cc pc = .ok (.invokevirtual index, 3)) (h : zy_k P r ty cap K) (k : ∀ (q : Nat) (P : zk_H), K q P → zV p l e R s m args below meth c D b0 nL (cells + 1) (slots + cap) Q P (pc + 3) L (va_rf (some q) :: rest)) : zV p l e R s m args below meth c D b0 nL cells slots Q P pc L (va_rf r :: rest) := fun H locs ls h1 h2 h3 => by
  obtain ⟨a, t, n, z, rfl, ha, hfit, hcap, hK⟩ := h
  obtain ⟨cell, g1, g2, g3, g4, g5, g6⟩ := zk_at.arr X.K (h1.2 a t _ ha)
  have g4 : cell.slots.size = n := g4
  have g5 : ∀ j : Nat, j < n → cell.slots[j]? = some (zk_av z j) := g5
  have hcls : cell.cls = D.2 ty := Option.some.inj (g6.symm.trans (zk_RAn (X.K.2 ty hok).2))
  rw [hC] at g6
  obtain ⟨c0, t0', f1, f2, f3⟩ := Cond.castable_spec (va_Nw.use (A := args) rfl (X.nw qc))
  cases g6.symm.trans f1
  obtain ⟨g21, kS, hkS, compS, hkindS⟩ := g2
  intro T hT S
  obtain ⟨-, kA, hkA, comp, hkind⟩ := State.isArrayOf_alike S.warmed.alike (⟨g21, kS, hkS, compS, hkindS⟩ : s.isArrayOf cell ty)
  obtain ⟨vm', X', st⟩ := S.cloneArray X.1 X.2.2.2.1 (X.w ql) (X.w qs) (X.w q660) (X.w q661) (X.w qe) (a := a) (cell := cell) (by rw [hT]; exact g1) g21 g3 g6 f2 f3
    (fun i v hv => by
      have hk' : T.vm.classes[cell.cls]? = some kA := hkA
      have hlt : i < n := by rw [← g4]; exact (Array.getElem?_eq_some_iff.mp hv).1
      have hv' : v = zk_av z i := Option.some.inj (hv.symm.trans (g5 i hlt))
      have := hfit i
      rw [← hv'] at this
      simpa [State.fitsSlot, State.slotType?, hk', hkind] using this)
    (g := F0 m pc ls (.ref a :: rest)) rfl (by rw [X.2.2.1]; exact h3.1) rfl (by rw [X.2.1]; exact d) hR.1 (by show 2 * 0 + _ + 14 ≤ _; omega) hcells (by show slots + cell.slots.size ≤ _; rw [g4]; omega) (hloader := Vm.clonesLoader_of_array hkS hkindS)
  have hc2 : ({ cls := cell.cls, slots := cell.slots } : Cell) = vp_cell (D.2 ty) (n, z) := zk_mk z hcls g4 g5
  rw [hc2, g4] at X'
  generalize hH1 : H.push (vp_cell (D.2 ty) (n, z)) = H1
  have z1 : H1.size = H.size + 1 := by rw [← hH1, Array.size_push]
  have e1 : H1[H.size]? = some (vp_cell (D.2 ty) (n, z)) := by rw [← hH1, Array.getElem?_push_size]
  have o1 : ∀ q : Nat, q < H.size → H1[q]? = H[q]? := fun q hq => by rw [← hH1, Array.getElem?_push, if_neg (Nat.ne_of_lt hq)]
  have hx : va_at D.1 zk_cl (H.size, zk_v D (.inl (ty, n, z))) H1 := e1
  have kk := W.widen (k := cells + 1) (n := slots + cap) (Nat.le_refl _) (show slots + n ≤ slots + cap by omega) (k H.size _ (hK H.size h1.none) H1 locs ls (h1.push ⟨hx, h1.1, hok⟩ z1 o1) (zk_S.push h2 z1 o1) h3)
  subst hT
  obtain ⟨t, b1, b2⟩ := kk _ (by show _ = H1; rw [← hH1]; rfl) X'
  rw [hc2] at st
  exact ⟨t, st t b1, b2⟩
theorem zk_nn (z : Int32) (hz : ¬ z < 0) : z.toInt = (z.toNatClampNeg : Int) := by
  have hz0 : (0 : Int) ≤ z.toInt := by
    have := Int32.not_lt.mp hz
    simpa using Int32.le_iff_toInt_le.mp this
  show z.toInt = ((z.toInt.toNat : Nat) : Int)
  omega
theorem zk_cpyE {H : Heap} {locs : List Loc} {b nb : Nat} {ty : FieldType} {x : zk_E} {z' : (Nat → Int32) ⊕ (Nat → Int64) ⊕ (Nat → UInt32) ⊕ (Nat → UInt64) ⊕ (Nat → Option Nat)} (hP : zk_R D b0 P s H) (hb : P b = some (true, x)) (hok : zk_ok (.inl (ty, nb, z'))) (h2 : va_S (zk_A b0) s.heap H locs) {cd : Cell} (hcd : cd = vp_cell (D.2 ty) (nb, z')) {L2 : List Loc} (hL2 : ∀ q ∈ L2, q.base = b) : zk_R D b0 (zk_u P b (.inl (ty, nb, z'))) s (H.setIfInBounds b cd) ∧ va_S (zk_A b0) s.heap (H.setIfInBounds b cd) (locs ++ L2) := by
  have h := hP.2 b true x hb
  have hl : b < H.size := zk_at.lt h
  have oq : ∀ q : Nat, q ≠ b → (H.setIfInBounds b cd)[q]? = H[q]? := fun q hq => by simp [Array.getElem?_setIfInBounds, Ne.symm hq]
  have hx : va_at D.1 zk_cl (b, zk_v D (.inl (ty, nb, z'))) (H.setIfInBounds b cd) := by
    show (H.setIfInBounds b cd)[b]? = some (vp_cell (D.2 ty) (nb, z'))
    rw [← hcd]
    simp [Array.getElem?_setIfInBounds, hl]
  refine ⟨hP.put ⟨hx, h.2.1, hok⟩ (by simp) oq, by simp; exact h2.1, fun q g1 g2 => ?_, fun q hq => ?_⟩
  · rw [oq q (fun e => g2 (by rw [e]; exact h.2.1))]
    exact h2.2.1 q g1 g2
  · rcases List.mem_append.mp hq with h9 | h9
    · exact h2.2.2 q h9
    · rw [hL2 q h9]
      exact h.2.1
theorem zv_copyB (X : zk_X p s m args meth c D g b0 cc nL own nm ret) {src dst : Option Nat} {sp dp n : Int32} {index : Nat} {K : zk_H → Prop} (ql : Cond.methodLink own index arraycopyName ∈ lw_all) (hR : 1 ≤ R.frames ∧ 8 + (nativeFrameWords "java/lang/System" "arraycopy" 5 + 11) ≤ R.locals) (hl : (rest.map fun v => v.category).sum ≤ 8) (d : decode cc pc = .ok (.invokestatic index, 3)) (h : zy_b P src sp dst dp n K) (k : ∀ P : zk_H, K P → zV p l e R s m args below meth c D b0 nL cells slots Q P (pc + 3) L rest) : zV p l e R s m args below meth c D b0 nL cells slots Q P pc L (.int n :: .int dp :: va_rf dst :: .int sp :: va_rf src :: rest) := fun H locs ls h1 h2 h3 => by
  obtain ⟨a, b, t, na, nb, f, hh, rfl, rfl, ha, hb, j1, j2, j3, j4, j5, hfit, hK⟩ := h
  obtain ⟨cs, g1, g2, g3, g4, g5, g6⟩ := zk_at.arr X.K (h1.2 a t _ ha)
  have g4 : cs.slots.size = na := g4
  have g5 : ∀ j : Nat, j < na → cs.slots[j]? = some (.int (f j)) := g5
  obtain ⟨e1, e2, e3⟩ := zk_ar X h1 hb
  have e1 : H[b]? = some (arrV (D.2 .byte) nb (fun j => .int (hh j))) := e1
  intro T hT S
  obtain ⟨g20, k0, hk0, cm0, hkk0⟩ := g2
  obtain ⟨-, k1, hk1, cm1, hkk1⟩ := e2
  obtain ⟨vm', X', step⟩ := S.arraycopy X.1 X.2.2.2.1 (X.w ql) (X.w zk_ac1) (X.w zk_ac2) (X.w zk_ac3) (src := a) (dst := b) (cs := cs) (cd := arrV (D.2 .byte) nb (fun j => .int (hh j))) (srcPos := sp) (destPos := dp) (n := n) (by rw [hT]; exact g1) (by rw [hT]; exact e1)
    g20 (fun _ h => by cases h) g3 (fun h => by cases h) hk0 hk1 hkk0 hkk1 (by simp [refKind]) j1 j2 j3
    (by rw [zk_nn sp j1, zk_nn n j3, g4]; omega)
    (by rw [zk_nn dp j2, zk_nn n j3, arrV_size]; omega)
    (fun vm₁ _ i hi => by
      have e : cs.slots.getD (sp.toNatClampNeg + i) .null = .int (f (sp.toNatClampNeg + i)) := by
        rw [Array.getD_eq_getD_getElem?, g5 _ (by omega)]
        rfl
      refine ⟨?_, ?_⟩
      · rw [e]
        exact hfit i hi
      · rw [e]
        exact trivial)
    (g := F0 m pc ls (.int n :: .int dp :: .ref b :: .int sp :: .ref a :: rest)) rfl (by rw [X.2.2.1]; exact h3.1) (rest := rest) rfl (by rw [X.2.1]; exact d) hR.1 (by show 2 * 0 + _ + _ ≤ _; omega)
  have ec : copied cs (arrV (D.2 .byte) nb (fun j => .int (hh j))) sp dp n = vp_cell (D.2 .byte) (nb, .inl (va_cpy f hh sp.toNatClampNeg dp.toNatClampNeg n.toNatClampNeg)) := by
    rw [vp_cell_i]
    exact va_copiedX (fun z => .int z) cs (D.2 .byte) f hh g5 j4
  have go : ∀ (L2 : List Loc), (∀ q ∈ L2, q.base = b) → Stand p l e R s m args below meth c ((T.setVm vm').setCell b (copied cs (arrV (D.2 (.byte)) nb (zk_av (.inl hh))) sp dp n)) (locs ++ L2) cells slots → ∃ t, Steps p.tables e below (((T.setVm vm').setCell b (copied cs (arrV (D.2 (.byte)) nb (zk_av (.inl hh))) sp dp n)).setTop (F0 m (pc + 3) ls rest)) t ∧ Q t := fun L2 hL2 X' => by
    obtain ⟨r1, r2⟩ := zk_cpyE (ty := .byte) (nb := nb) (z' := .inl (va_cpy f hh sp.toNatClampNeg dp.toNatClampNeg n.toNatClampNeg)) h1 hb (h1.2 b true _ hb).2.2 h2 ec (L2 := L2) hL2
    exact k _ hK _ _ ls r1 r2 h3 _ (by show T.heap.setIfInBounds _ _ = _; rw [hT]; rfl) X'
  obtain ⟨t, a1, b1⟩ := go _ (fun q hq => by obtain ⟨z, -, hz⟩ := List.mem_map.mp hq; rw [← hz]) X'
  exact ⟨t, step t a1, b1⟩
theorem zv_copyQ (X : zk_X p s m args meth c D g b0 cc nL own nm ret) {src dst : Option Nat} {sp dp n : Int32} {index : Nat} {K : zk_H → Prop} (hM : ∀ (C : String) (ci : Nat), ci ∈ zk_may C → zk_ca ci C) (ql : Cond.methodLink own index arraycopyName ∈ lw_all) (hR : 1 ≤ R.frames ∧ 8 + (nativeFrameWords "java/lang/System" "arraycopy" 5 + 11) ≤ R.locals) (hl : (rest.map fun v => v.category).sum ≤ 8) (d : decode cc pc = .ok (.invokestatic index, 3)) (h : zy_q P src sp dst dp n K) (k : ∀ P : zk_H, K P → zV p l e R s m args below meth c D b0 nL cells slots Q P (pc + 3) L rest) : zV p l e R s m args below meth c D b0 nL cells slots Q P pc L (.int n :: .int dp :: va_rf dst :: .int sp :: va_rf src :: rest) := fun H locs ls h1 h2 h3 => by
  obtain ⟨a, b, t, E0, E1, na, nb, f, hh, rfl, rfl, ha, hb, j1, j2, j3, j4, j5, hel, hK⟩ := h
  obtain ⟨cs, g1, g2, g3, g4, g5, g6⟩ := zk_at.arr X.K (h1.2 a t _ ha)
  have g4 : cs.slots.size = na := g4
  have g5 : ∀ j : Nat, j < na → cs.slots[j]? = some (va_rf (f j)) := g5
  obtain ⟨e1, e2, e3⟩ := zk_ar X h1 hb
  have e1 : H[b]? = some (arrV (D.2 (.object E1)) nb (fun j => va_rf (hh j))) := e1
  intro T hT S
  obtain ⟨g20, k0, hk0, cm0, hkk0⟩ := g2
  obtain ⟨-, k1, hk1, cm1, hkk1⟩ := e2
  obtain ⟨vm', X', step⟩ := S.arraycopy X.1 X.2.2.2.1 (X.w ql) (X.w zk_ac1) (X.w zk_ac2) (X.w zk_ac3) (src := a) (dst := b) (cs := cs) (cd := arrV (D.2 (.object E1)) nb (fun j => va_rf (hh j))) (srcPos := sp) (destPos := dp) (n := n) (by rw [hT]; exact g1) (by rw [hT]; exact e1)
    g20 (fun _ h => by cases h) g3 (fun h => by cases h) hk0 hk1 hkk0 hkk1 rfl j1 j2 j3
    (by rw [zk_nn sp j1, zk_nn n j3, g4]; omega)
    (by rw [zk_nn dp j2, zk_nn n j3, arrV_size]; omega)
    (fun vm₁ hal i hi => by
      have e : cs.slots.getD (sp.toNatClampNeg + i) .null = va_rf (f (sp.toNatClampNeg + i)) := by
        rw [Array.getD_eq_getD_getElem?, g5 _ (by omega)]
        rfl
      rw [e]
      cases hy : f (sp.toNatClampNeg + i) with
      | none => exact ⟨rfl, trivial⟩
      | some y =>
        obtain ⟨t2, ci, fs, hPy, hci⟩ := hel i hi y hy
        obtain ⟨r0, hc, hca⟩ := hM E1 ci hci
        obtain ⟨cellV, u1, u2, u3⟩ := zk_recv X h1 hPy hc
        obtain ⟨kA, comp, r1, r2, r3, -⟩ := e3
        cases hk1.symm.trans r1
        cases hkk1.symm.trans r2
        obtain ⟨kC, hkC, -⟩ := Vm.findClass_spec u3
        obtain ⟨kE, hkE, -⟩ := Vm.findClass_spec r3
        obtain ⟨kC', hkC', -⟩ := hal.2.2 _ _ hkC
        obtain ⟨kE', hkE', -⟩ := hal.2.2 _ _ hkE
        refine ⟨rfl, cellV, (show T.heap[y]? = some cellV by rw [hT]; exact u1), (fun q h => by rw [h] at u2; cases u2), ⟨kC', hkC'⟩, ?_, ?_⟩
        · exact ⟨kE', hkE'⟩
        · show vm₁.assignable _ _ = true
          rw [hal.assignable]
          exact zk_asg X hc hca r3 u3)
    (g := F0 m pc ls (.int n :: .int dp :: .ref b :: .int sp :: .ref a :: rest)) rfl (by rw [X.2.2.1]; exact h3.1) (rest := rest) rfl (by rw [X.2.1]; exact d) hR.1 (by show 2 * 0 + _ + _ ≤ _; omega)
  have ec : copied cs (arrV (D.2 (.object E1)) nb (fun j => va_rf (hh j))) sp dp n = vp_cell (D.2 (.object E1)) (nb, .inr (.inr (.inr (.inr (va_cpy f hh sp.toNatClampNeg dp.toNatClampNeg n.toNatClampNeg))))) := by
    rw [vp_cell_q]
    exact va_copiedX (fun z => va_rf z) cs (D.2 (.object E1)) f hh g5 j4
  have go : ∀ (L2 : List Loc), (∀ q ∈ L2, q.base = b) → Stand p l e R s m args below meth c ((T.setVm vm').setCell b (copied cs (arrV (D.2 (.object E1)) nb (zk_av (.inr (.inr (.inr (.inr hh)))))) sp dp n)) (locs ++ L2) cells slots → ∃ t, Steps p.tables e below (((T.setVm vm').setCell b (copied cs (arrV (D.2 (.object E1)) nb (zk_av (.inr (.inr (.inr (.inr hh)))))) sp dp n)).setTop (F0 m (pc + 3) ls rest)) t ∧ Q t := fun L2 hL2 X' => by
    obtain ⟨r1, r2⟩ := zk_cpyE (ty := .object E1) (nb := nb) (z' := .inr (.inr (.inr (.inr (va_cpy f hh sp.toNatClampNeg dp.toNatClampNeg n.toNatClampNeg))))) h1 hb (h1.2 b true _ hb).2.2 h2 ec (L2 := L2) hL2
    exact k _ hK _ _ ls r1 r2 h3 _ (by show T.heap.setIfInBounds _ _ = _; rw [hT]; rfl) X'
  obtain ⟨t, a1, b1⟩ := go _ (fun q hq => by obtain ⟨z, -, hz⟩ := List.mem_map.mp hq; rw [← hz]) X'
  exact ⟨t, step t a1, b1⟩
/-! calls of nest mates' private methods -/
theorem zk_cwN (X : zk_X p s m args meth c D g b0 cc nL own nm ret) {host : String} {index maxL : Nat} {y : MethodName} {bytes : ByteArray} {rt : Option FieldType} {rm : Room} (n : Nat) (ql : Cond.methodLinkNest own index y host ∈ lw_tbl) (hG : GoodIn lw_all (ws_ y bytes maxL rt)) (qi : Cond.initialized y.cls ∈ lw_all) (hd : y.cls ≠ "java/lang/invoke/MethodHandle" ∧ y.cls ≠ "java/lang/invoke/VarHandle" ∧ (parseMethodDescriptor y.desc).map (fun d => d.parameters.length) = some n) (hR : rm.frames + 1 ≤ R.frames ∧ 8 + (maxL + 11) + rm.locals ≤ R.locals) : va_CN R s args own index y host bytes maxL rt (ws_ y bytes maxL rt) rm rm.cells rm.slots n :=
  va_cnB n X.2.2.2.2.1 hG rfl rfl rfl (X.nw (zk_nwm ql rfl)) (X.w qi) hd hR
theorem zr_SN (X : zk_X p s m args meth c D g b0 cc nL own nm ret) {host : String} {y : MethodName} {bytes : ByteArray} {maxL index n : Nat} {rt : Option FieldType} {rm : Room} {As : List Value} {Qc : Array Value → State → Outcome → State → Prop} (hM : Met l y (ws_ y bytes maxL rt) rm (va_Pc As (zk_pre D g b0 P)) Qc mc ms (zk_A b0)) (cw : va_CN R s args own index y host bytes maxL rt (ws_ y bytes maxL rt) rm mc ms n ∧ Cond.static y ∈ lw_all) (hn : As.length = n) (hst : st = As.reverse ++ rest) (hW : (rest.map fun v => v.category).sum ≤ 8) (d : decode cc pc = .ok (.invokestatic index, 3)) (hf : cells + mc ≤ R.cells ∧ slots + ms ≤ R.slots) : ∃ av : Array Value, zRun p l e R s m args below meth c D b0 nL cells slots mc ms P pc L st rest (Qc av) := ⟨_, fun H locs ls h1 h2 h3 => va_runSN X.fix hM ⟨cw.1, X.w cw.2, trivial⟩ ⟨zk_pre.blind, X.pre h1 h2⟩ rfl hn h3.1 hst (lv_room hW) d hf⟩
theorem zr_IN (X : zk_X p s m args meth c D g b0 cc nL own nm ret) {host : String} {y : MethodName} {bytes : ByteArray} {maxL index n a : Nat} {rm : Room} {As : List Value} {Qc : Array Value → State → Outcome → State → Prop} (hM : Met l y (ws_ y bytes maxL none) rm (va_Pc (.ref a :: As) (zk_pre D g b0 P)) Qc mc ms (zk_A b0)) (cw : va_CN R s args own index y host bytes maxL none (ws_ y bytes maxL none) rm mc ms n ∧ y.name = "<init>" ∧ Cond.instanceMethod y ∈ lw_all) (hn : As.length = n) (hst : st = As.reverse ++ .ref a :: rest) (hW : (rest.map fun v => v.category).sum ≤ 8) (d : decode cc pc = .ok (.invokespecial index, 3)) (hf : cells + mc ≤ R.cells ∧ slots + ms ≤ R.slots) : ∃ av : Array Value, zRun p l e R s m args below meth c D b0 nL cells slots mc ms P pc L st rest (Qc av) := ⟨_, fun H locs ls h1 h2 h3 => va_runIN X.fix hM ⟨cw.1, cw.2.1, X.w cw.2.2⟩ ⟨zk_pre.blind, X.pre h1 h2⟩ rfl hn h3.1 hst (lv_room hW) d hf⟩
theorem zr_VNl (X : zk_X p s m args meth c D g b0 cc nL own nm ret) {host : String} {y : MethodName} {bytes : ByteArray} {maxL index n : Nat} {r0 : Option Nat} {cs : List Nat} {K : Nat → Prop} {rt : Option FieldType} {rm : Room} {As : List Value} {Qc : Array Value → State → Outcome → State → Prop} (h : zo P r0 cs K) (hM : ∀ a, K a → Met l y (ws_ y bytes maxL rt) rm (va_Pc (.ref a :: As) (zk_pre D g b0 P)) Qc mc ms (zk_A b0)) (hc : ∀ ci ∈ cs, ∃ r, zk_cl[ci]? = some r ∧ va_CN R s args own index y host bytes maxL rt (ws_ y bytes maxL rt) rm mc ms n ∧ Cond.instanceMethod y ∈ lw_all ∧ Cond.selects r.1 y y ∈ lw_all) (hn : As.length = n) (hst : st = As.reverse ++ va_rf r0 :: rest) (hW : (rest.map fun v => v.category).sum ≤ 8) (d : decode cc pc = .ok (.invokevirtual index, 3)) (hf : cells + mc ≤ R.cells ∧ slots + ms ≤ R.slots) : ∃ av : Array Value, zRun p l e R s m args below meth c D b0 nL cells slots mc ms P pc L st rest (Qc av) := by
  obtain ⟨a, t, ci, fs, rfl, ha, hci, hK⟩ := h
  obtain ⟨r, hr, cw, hi, hs⟩ := hc ci hci
  exact ⟨_, fun H locs ls h1 h2 h3 => va_runVN X.fix (hM a hK) ⟨cw, X.w hi, X.w hs⟩ ⟨zk_pre.blind, zk_recv X h1 ha hr, X.pre h1 h2⟩ rfl hn h3.1 hst (lv_room hW) d hf⟩
/-! words of calls of inherited and of interface methods -/
theorem zk_wsU {own C owner : String} {idx : Nat} {x y : MethodName} {b : ByteArray} {L : Nat} {r : Option FieldType} (h1 : Cond.methodLink own idx x ∈ lw_all) (h2 : Cond.sameMethod x.cls owner x.name x.desc ∈ lw_all) (h3 : Cond.selects C x y ∈ lw_all) (h4 : Cond.instanceMethod y ∈ lw_all) (h5 : Cond.initialized y.cls ∈ lw_all) (h6 : Cond.code y b L r ∈ lw_all) : GoodIn lw_all (va_wsU own idx C owner x y (ws_ y b L r)) := by
  refine lw_app ?_ (lw_meth h6)
  intro w hw
  simp only [List.mem_cons, List.not_mem_nil, or_false] at hw
  rcases hw with e | e | e | e | e
  · rw [e]; exact h1
  · rw [e]; exact h2
  · rw [e]; exact h3
  · rw [e]; exact h4
  · rw [e]; exact h5
theorem zk_wsF {own C : String} {idx : Nat} {x y : MethodName} {b : ByteArray} {L : Nat} {r : Option FieldType} (h1 : Cond.methodLink own idx x ∈ lw_all) (h3 : Cond.selects C x y ∈ lw_all) (h4 : Cond.instanceMethod y ∈ lw_all) (h5 : Cond.initialized y.cls ∈ lw_all) (h6 : Cond.code y b L r ∈ lw_all) : GoodIn lw_all (va_wsF own idx C x y (ws_ y b L r)) := by
  refine lw_app ?_ (lw_meth h6)
  intro w hw
  simp only [List.mem_cons, List.not_mem_nil, or_false] at hw
  rcases hw with e | e | e | e
  · rw [e]; exact h1
  · rw [e]; exact h3
  · rw [e]; exact h4
  · rw [e]; exact h5
theorem zk_X.fw (X : zk_X p s m args meth c D g b0 cc nL own nm ret) {i : Nat} {q : String × MethodName × MethodName} (h : zk_fws[i]? = some q) : va_Fw q.1 q.2.1 q.2.2 s := X.2.2.2.2.2.1.1.2.2.2.1 q (List.mem_of_getElem? h)
theorem zk_X.nc (X : zk_X p s m args meth c D g b0 cc nL own nm ret) {i : Nat} {q : String × String} (h : zk_ncs[i]? = some q) : va_Nc q.1 q.2 s := X.2.2.2.2.2.1.1.2.2.2.2.2.1 q (List.mem_of_getElem? h)
def zk_max (x y : Int32) : Int32 := if x < y then y else x
def zk_min (x y : Int32) : Int32 := if y < x then y else x
def zk_abs (x : Int32) : Int32 := if 0 ≤ x then x else 0 - x
theorem zv_mmax (X : zk_X p s m args meth c D g b0 cc nL own nm ret) {index : Nat} {x y : Int32} (ql : Cond.methodLink own index Lib.Math.max.name ∈ lw_all) (hR : 1 ≤ R.frames ∧ 21 ≤ R.locals) (hl : (rest.map fun v => v.category).sum ≤ 8) (hc : cells ≤ R.cells) (hs : slots ≤ R.slots) (d : decode cc pc = .ok (.invokestatic index, 3)) (k : zV p l e R s m args below meth c D b0 nL cells slots Q P (pc + 3) L (.int (zk_max x y) :: rest)) : zV p l e R s m args below meth c D b0 nL cells slots Q P pc L (.int y :: .int x :: rest) := fun H locs ls h1 h2 h3 => va_mmax X.1 X.2.1 (X.2.2.1.trans h3.1.symm) X.2.2.2.1 (X.w ql) (X.w q245) (X.w q108) (X.w q246) hR.1 (by omega) hc hs d (k H locs ls h1 h2 h3)
theorem zv_mmin (X : zk_X p s m args meth c D g b0 cc nL own nm ret) {index : Nat} {x y : Int32} (ql : Cond.methodLink own index Lib.Math.min.name ∈ lw_all) (hR : 1 ≤ R.frames ∧ 21 ≤ R.locals) (hl : (rest.map fun v => v.category).sum ≤ 8) (hc : cells ≤ R.cells) (hs : slots ≤ R.slots) (d : decode cc pc = .ok (.invokestatic index, 3)) (k : zV p l e R s m args below meth c D b0 nL cells slots Q P (pc + 3) L (.int (zk_min x y) :: rest)) : zV p l e R s m args below meth c D b0 nL cells slots Q P pc L (.int y :: .int x :: rest) := fun H locs ls h1 h2 h3 => va_mmin X.1 X.2.1 (X.2.2.1.trans h3.1.symm) X.2.2.2.1 (X.w ql) (X.w q289) (X.w q108) (X.w q290) hR.1 (by omega) hc hs d (k H locs ls h1 h2 h3)
theorem zv_mabs (X : zk_X p s m args meth c D g b0 cc nL own nm ret) {index : Nat} {x : Int32} (ql : Cond.methodLink own index Lib.Math.abs.name ∈ lw_all) (hR : 1 ≤ R.frames ∧ 21 ≤ R.locals) (hl : (rest.map fun v => v.category).sum ≤ 8) (hc : cells ≤ R.cells) (hs : slots ≤ R.slots) (d : decode cc pc = .ok (.invokestatic index, 3)) (k : zV p l e R s m args below meth c D b0 nL cells slots Q P (pc + 3) L (.int (zk_abs x) :: rest)) : zV p l e R s m args below meth c D b0 nL cells slots Q P pc L (.int x :: rest) := fun H locs ls h1 h2 h3 => va_mabs X.1 X.2.1 (X.2.2.1.trans h3.1.symm) X.2.2.2.1 (X.w ql) (X.w q1863) (X.w q108) (X.w q1864) hR.1 (by omega) hc hs d (k H locs ls h1 h2 h3)
theorem zk_X.sx (X : zk_X p s m args meth c D g b0 cc nL own nm ret) {i : Nat} {y : MethodName} (h : zk_sx[i]? = some y) : (Cond.selects "java/lang/StringBuilder" y y).before args s = true := va_Nw.use rfl (X.2.2.2.2.2.1.1.2.2.2.2.2.2.2 y (List.mem_of_getElem? h))
theorem zk_cwUP (X : zk_X p s m args meth c D g b0 cc nL own nm ret) {C : String} {index maxL : Nat} {y : MethodName} {bytes : ByteArray} {rt : Option FieldType} {rm : Room} (n : Nat) (ql : Cond.methodLink own index y ∈ lw_all) (qs : Cond.sameMethod y.cls y.cls y.name y.desc ∈ lw_all) (hsel : (Cond.selects C y y).before args s = true) (qi : Cond.instanceMethod y ∈ lw_all) (qn : Cond.initialized y.cls ∈ lw_all) (qc : Cond.code y bytes maxL rt ∈ lw_all) (hd : y.cls ≠ "java/lang/invoke/MethodHandle" ∧ y.cls ≠ "java/lang/invoke/VarHandle" ∧ (parseMethodDescriptor y.desc).map (fun d => d.parameters.length) = some n) (hR : rm.frames + 1 ≤ R.frames ∧ 8 + (maxL + 11) + rm.locals ≤ R.locals) : va_CU R s args own C y.cls index y y bytes maxL rt (ws_ y bytes maxL rt) rm rm.cells rm.slots n := by
  refine ⟨⟨rfl, rfl, hR.1, hR.2, pay_in X.hts (lw_meth qc), List.mem_cons_self⟩, X.w qc, X.w qn, ⟨hd.1, hd.2.1⟩, fun sig h => ?_, X.w ql, X.w qs, va_Decl.of (X.w qi) (X.w qc), hsel, X.w qi⟩
  have h2 := hd.2.2
  rw [h] at h2
  exact (Option.some.inj h2).symm
theorem zk_wsSU {own : String} {idx : Nat} {y : MethodName} {b : ByteArray} {L : Nat} {r : Option FieldType} (h1 : Cond.methodLink own idx y ∈ lw_all) (h2 : Cond.sameMethod y.cls y.cls y.name y.desc ∈ lw_all) (h3 : Cond.superclass own y.cls ∈ lw_all) (h4 : Cond.instanceMethod y ∈ lw_all) (h5 : Cond.initialized y.cls ∈ lw_all) (h6 : Cond.code y b L r ∈ lw_all) : GoodIn lw_all (va_wsSU own idx y (ws_ y b L r)) := by
  refine lw_app ?_ (lw_meth h6)
  intro w hw
  simp only [List.mem_cons, List.not_mem_nil, or_false] at hw
  rcases hw with e | e | e | e | e
  · rw [e]; exact h1
  · rw [e]; exact h2
  · rw [e]; exact h3
  · rw [e]; exact h4
  · rw [e]; exact h5
theorem zk_wsO {own C owner : String} {idx : Nat} {x y : MethodName} {b : ByteArray} {L : Nat} {r : Option FieldType} (h1 : Cond.methodLink own idx x ∈ lw_all) (h2 : Cond.sameMethod x.cls owner x.name x.desc ∈ lw_all) (h0 : Cond.instanceMethod ⟨owner, x.name, x.desc⟩ ∈ lw_all) (h3 : Cond.selects C x y ∈ lw_all) (h4 : Cond.instanceMethod y ∈ lw_all) (h5 : Cond.initialized y.cls ∈ lw_all) (h6 : Cond.code y b L r ∈ lw_all) : GoodIn lw_all (va_wsO own idx C owner x y (ws_ y b L r)) := by
  refine lw_app ?_ (lw_meth h6)
  intro w hw
  simp only [List.mem_cons, List.not_mem_nil, or_false] at hw
  rcases hw with e | e | e | e | e | e
  · rw [e]; exact h1
  · rw [e]; exact h2
  · rw [e]; exact h0
  · rw [e]; exact h3
  · rw [e]; exact h4
  · rw [e]; exact h5
theorem zr_P (X : zk_X p s m args meth c D g b0 cc nL own nm ret) {y : MethodName} {bytes : ByteArray} {maxL index n ci : Nat} {r0 : Option Nat} {K : Nat → Prop} {rt : Option FieldType} {rm : Room} {As : List Value} {Qc : Array Value → State → Outcome → State → Prop} (h : zo P r0 [ci] K) (hM : ∀ a, K a → Met l y (ws_ y bytes maxL rt) rm (va_Pc (.ref a :: As) (zk_pre D g b0 P)) Qc mc ms (zk_A b0)) (cw : va_CS R s args own index y bytes maxL rt (ws_ y bytes maxL rt) rm mc ms n) (hn : As.length = n) (hst : st = As.reverse ++ va_rf r0 :: rest) (hW : (rest.map fun v => v.category).sum ≤ 8) (d : decode cc pc = .ok (.invokespecial index, 3)) (hf : cells + mc ≤ R.cells ∧ slots + ms ≤ R.slots) : ∃ av : Array Value, zRun p l e R s m args below meth c D b0 nL cells slots mc ms P pc L st rest (Qc av) := by
  obtain ⟨a, t, ci', fs, rfl, ha, hci, hK⟩ := h
  exact ⟨_, fun H locs ls h1 h2 h3 => by
    obtain ⟨r, cell, hr, -⟩ := zk_at.obj X.K (h1.2 a t _ ha)
    exact va_runSU (X.K.1.1 ci' r hr).2 X.fix (hM a hK) cw ⟨zk_pre.blind, zk_recv X h1 ha hr, X.pre h1 h2⟩ rfl hn h3.1 hst (lv_room hW) d hf⟩
theorem zk_mayok : ∀ (C : String) (ci : Nat), ci ∈ zk_may C → zk_ca ci C := by
  intro C ci h
  unfold zk_may at h
  split at h
  · rename_i e
    subst e
    simp only [List.mem_cons, List.not_mem_nil, or_false] at h
    rcases h with rfl | rfl | rfl | rfl | rfl | rfl | rfl
    · exact ⟨_, rfl, Or.inl (zk_nwm q2618 rfl)⟩
    · exact ⟨_, rfl, Or.inl (zk_nwm q2622 rfl)⟩
    · exact ⟨_, rfl, Or.inl (zk_nwm q2623 rfl)⟩
    · exact ⟨_, rfl, Or.inl (zk_nwm q2631 rfl)⟩
    · exact ⟨_, rfl, Or.inl (zk_nwm q2633 rfl)⟩
    · exact ⟨_, rfl, Or.inl (zk_nwm q2634 rfl)⟩
    · exact ⟨_, rfl, Or.inl (zk_nwm q2628 rfl)⟩
  · split at h
    · rename_i e
      subst e
      obtain rfl := List.mem_singleton.mp h
      exact ⟨_, rfl, Or.inr rfl⟩
    · exact absurd h List.not_mem_nil
end ZV7
