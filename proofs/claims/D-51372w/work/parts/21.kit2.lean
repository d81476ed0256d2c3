/-! OUR KIT 2: the judgement zV: W over every heap that holds P, with the listed locals; rows for the plain instructions -/
abbrev zk_M : Type := (Nat → Nat)
/-- words that don't ride in the lists -/
def zk_isN : Cond → Bool
  | .fieldLinkNest .. => true
  | .methodLinkNest .. => true
  | .castable .. => true
  | .declares .. => true
  | _ => false
def zk_nw : List Cond := lw_tbl.filter zk_isN
theorem zk_nwm {w : Cond} (h : w ∈ lw_tbl) (hk : zk_isN w = true) : w ∈ zk_nw := List.mem_filter.mpr ⟨h, hk⟩
theorem zk_nwo {w : Cond} (h : zk_isN w = true) : w.onTables = true := by
  cases w <;> first | rfl | (simp [zk_isN] at h)
theorem zk_nwW {w : Cond} (hk : zk_isN w = true) {s U : State} (hW : s.WarmedH U.vm) (h : va_Nw w s) : va_Nw w U := by
  cases w <;> first | exact va_Nw.warmF hW h | exact va_Nw.warmM hW h | exact va_Nw.warmC hW h | exact va_Nw.warmD hW h | (simp [zk_isN] at hk)
def zk_aos : List String := ["java/lang/Object", "LandFolio$Folio"]
def zk_fws : List (String × MethodName × MethodName) := [("java/util/ArrayList", ⟨"java/util/Collection", "toArray", "()[Ljava/lang/Object;"⟩, yJ2_toArray), ("LandFolio$ByRank$1", ⟨"java/util/Iterator", "hasNext", "()Z"⟩, yX13_hasNext), ("LandFolio$ByRank$1", ⟨"java/util/Iterator", "next", "()Ljava/lang/Object;"⟩, yX13_next)]
/-- a value of which only 'a reference or null' is known -/
def zk_oo (g : zk_M) (k : Nat) : Option Nat := if g (k + 1) = 0 then none else some (g k)
/-- private methods of StringBuilder's superclass, selected on a StringBuilder -/
def zk_sx : List MethodName := [yJ7_ensureCapacityInternal, yJ7_newCapacity, yJ7_putStringAt, yJ7_inflateIfNeededFor]
/-- static fields that nobody writes -/
def zk_sts (g : zk_M) : List (String × String × String × Value) := [("java/util/BitSet", "$assertionsDisabled", "Z", .int 1), ("java/lang/String", "COMPACT_STRINGS", "Z", .int 1), ("java/util/ArrayList", "DEFAULTCAPACITY_EMPTY_ELEMENTDATA", "[Ljava/lang/Object;", va_rf (some (g 22))), ("java/lang/Integer", "DigitTens", "[B", va_rf (some (g 23))), ("java/lang/Integer", "DigitOnes", "[B", va_rf (some (g 24))), ("LandFolio$Reason", "$VALUES", "[LLandFolio$Reason;", va_rf (some (g 31))), ("jdk/internal/util/Preconditions", "SIOOBE_FORMATTER", "Ljava/util/function/BiFunction;", va_rf (zk_oo g 32)), ("java/lang/Throwable", "UNASSIGNED_STACK", "[Ljava/lang/StackTraceElement;", va_rf (zk_oo g 34)), ("java/lang/Throwable", "SUPPRESSED_SENTINEL", "Ljava/util/List;", va_rf (zk_oo g 36))]
/-- String constants -/
def zk_strs (g : zk_M) : List (String × String × Nat × Nat) := [("LandFolio", "crown", 11, g 0), ("LandFolio$Reader", "", 22, g 1), ("LandFolio", "land", 136, g 2), ("LandFolio", "price", 141, g 3), ("LandFolio", "owner", 143, g 4), ("LandFolio", "split", 145, g 5), ("LandFolio", "row", 147, g 6), ("LandFolio", "col", 149, g 7), ("LandFolio", "give", 151, g 8), ("LandFolio", "debt", 153, g 9), ("LandFolio", "path", 155, g 10), ("LandFolio$Reader", "land", 208, g 2), ("LandFolio$Reader", "price", 210, g 3), ("LandFolio$Reader", "owner", 129, g 4), ("LandFolio$Reader", "split", 218, g 5), ("LandFolio$Reader", "row", 147, g 6), ("LandFolio$Reader", "col", 149, g 7), ("LandFolio$Reader", "give", 222, g 8), ("LandFolio$Reader", "debt", 226, g 9), ("LandFolio$Reader", "path", 191, g 10)]
def zk_ncs : List (String × String) := [("LandFolio$Debt", "LandFolio$Path"), ("LandFolio$Path", "LandFolio$Debt")]
/-- the enum's constants: their classes -/
def zk_ens : List String := ["LandFolio$Reason$1", "LandFolio$Reason$2", "LandFolio$Reason$3", "LandFolio$Reason$4", "LandFolio$Reason$5"]
def zk_E1 (D : zk_G) (g : zk_M) (U : State) : Prop := zk_K D U ∧ (∀ w ∈ zk_nw, va_Nw w U) ∧ (∀ C ∈ zk_aos, va_AO C U) ∧ (∀ q ∈ zk_fws, va_Fw q.1 q.2.1 q.2.2 U) ∧ (∀ q ∈ zk_strs g, vk_R q.1 q.2.2.1 q.2.1 q.2.2.2 U) ∧ (∀ q ∈ zk_ncs, va_Nc q.1 q.2 U) ∧ va_Mi "[Ljava/lang/Object;" (g 25) U ∧ ∀ y ∈ zk_sx, va_Nw (.selects "java/lang/StringBuilder" y y) U
def zk_Ev (D : zk_G) (g : zk_M) (b0 : Nat) (U : State) (H : Heap) : Prop := zk_E1 D g U ∧ (∀ q ∈ zk_sts g, va_Z q.1 q.2.1 q.2.2.1 q.2.2.2 (zk_A b0) U H) ∧ ∀ (i : Nat) (E : String), zk_ens[i]? = some E → va_O E (g (26 + i)) (zk_A b0) U H ∧ va_OF "java/lang/Enum" "ordinal" "I" (.int (nI i)) (g (26 + i)) (zk_A b0) U H
theorem zk_fwx {q : String × MethodName × MethodName} (h : q ∈ zk_fws) : q.2.1.cls ≠ "java/lang/invoke/MethodHandle" ∧ q.2.1.cls ≠ "java/lang/invoke/VarHandle" := by
  simp only [zk_fws, List.mem_cons, List.not_mem_nil, or_false] at h
  rcases h with rfl | rfl | rfl <;> decide
theorem zk_E1.moved {D : zk_G} {g : zk_M} {s U : State} (hvm : s.vm.Alike U.vm) (hX : ∀ y ∈ zk_sx, va_Nw (.selects "java/lang/StringBuilder" y y) U) (hN : ∀ w ∈ zk_nw, va_Nw w U) (hR : ∀ q ∈ zk_strs g, vk_R q.1 q.2.2.1 q.2.1 q.2.2.2 U) (h : zk_E1 D g s) : zk_E1 D g U := by
  obtain ⟨h1, h2, h3, h4, h5, h6, h7, h8⟩ := h
  exact ⟨h1.moved hvm, hN, fun C hC => va_AO.moved hvm (h3 C hC), fun q hq => va_Fw.moved (zk_fwx hq) hvm (h4 q hq), hR, fun q hq => va_Nc.moved hvm (h6 q hq), va_Mi.moved hvm h7, hX⟩
theorem zk_E1.warm {D : zk_G} {g : zk_M} {s U : State} (hW : s.WarmedH U.vm) (h : zk_E1 D g s) : zk_E1 D g U :=
  h.moved hW.alike (fun y hy => word_at hW (Or.inl rfl) (h.2.2.2.2.2.2.2 y hy)) (fun w hw => zk_nwW (List.mem_filter.mp hw).2 hW (h.2.1 w hw)) (fun q hq => vk_R.warm hW (h.2.2.2.2.1 q hq))
theorem zk_Ev.warm {D : zk_G} {g : zk_M} {b0 : Nat} {s U : State} {H0 H : Heap} (hW : s.WarmedH U.vm) (h : zk_Ev D g b0 s H0) (hS : H0.size ≤ H.size ∧ ∀ q : Nat, q < H0.size → ¬ zk_A b0 q → H[q]? = H0[q]?) : zk_Ev D g b0 U H :=
  ⟨h.1.warm hW, fun q hq => va_Z.moved hW.alike ((h.2.1 q hq).kept hS.2), fun i E hi => ⟨va_O.moved hW.alike ((h.2.2 i E hi).1.kept hS.2), va_OF.moved hW.alike ((h.2.2 i E hi).2.kept hS.2)⟩⟩
theorem zk_E1.same {D : zk_G} {g : zk_M} {s U : State} (hv : s.vm = U.vm) (h : zk_E1 D g s) : zk_E1 D g U :=
  h.moved (by rw [hv]; exact Vm.Alike.refl _) (fun y hy => va_Nw.same rfl hv (h.2.2.2.2.2.2.2 y hy)) (fun w hw => va_Nw.same (zk_nwo (List.mem_filter.mp hw).2) hv (h.2.1 w hw)) (fun q hq => vk_R.same hv.symm (h.2.2.2.2.1 q hq))
/-- what is fixed in a method's walk -/
def zk_X (p : Program) (s : State) (m : MethodId) (args : Array Value) (meth : Method) (c : Code) (D : zk_G) (g : zk_M) (b0 : Nat) (cc : ByteArray) (nL : Nat) (own nm : String) (ret : Option FieldType) : Prop :=
  p.tables.exec = Jvm.exec ∧ c.code = cc ∧ c.maxLocals = nL ∧ s.vm.findClass own = some m.cls ∧ (∀ w ∈ lw_all, w.before args s = true) ∧ zk_Ev D g b0 s s.heap ∧ meth.sig.returnType = ret ∧ meth.locks = false ∧ meth.name = nm
def zV (p : Program) (l : Launch) (e : Env) (R : Room) (s : State) (m : MethodId) (args : Array Value) (below : List Frame) (meth : Method) (c : Code) (D : zk_G) (b0 nL cells slots : Nat) (Q : State → Prop) (P : zk_H) (pc : Nat) (L : List (Nat × Value)) (st : List Value) : Prop :=
  ∀ (H : Heap) (locs : List Loc) (ls : Array Slot), zk_R D b0 P s H → va_S (zk_A b0) s.heap H locs → lv_has ls nL L → W p l e R s m args below meth c H locs cells slots Q (F0 m pc ls st)
def zk_pre (D : zk_G) (g : zk_M) (b0 : Nat) (P : zk_H) (U : State) : Prop := zk_Ev D g b0 U U.heap ∧ zk_R D b0 P U U.heap
def zk_B (D : zk_G) (b0 : Nat) (P : zk_H) (t : State) : Prop := zk_R D b0 P t t.heap
theorem zk_pre.blind {D : zk_G} {g : zk_M} {b0 : Nat} {P : zk_H} {vs : List Value} : FrameBlind (va_Pc vs (zk_pre D g b0 P)) := by
  intro a U f mk h
  obtain ⟨h1, ⟨h2, h3⟩, h4⟩ := h
  exact ⟨h1, ⟨zk_E1.same (s := U) (U := U.calling f mk a) rfl h2, fun q hq => va_Z.moved (u := U) (U := U.calling f mk a) (Vm.Alike.refl U.vm) (h3.1 q hq), fun i E hi => ⟨va_O.moved (u := U) (U := U.calling f mk a) (Vm.Alike.refl U.vm) (h3.2 i E hi).1, va_OF.moved (u := U) (U := U.calling f mk a) (Vm.Alike.refl U.vm) (h3.2 i E hi).2⟩⟩, h4.moved (u := U) (U := U.calling f mk a) (Vm.Alike.refl U.vm)⟩
/-- the start of a method's walk -/
theorem zk_enter {l : Launch} {y : MethodName} {cc : ByteArray} {maxL : Nat} {ret : Option FieldType} {rm : Room} {Qc : Array Value → State → Outcome → State → Prop} {mc ms : Nat} {D : zk_G} {g : zk_M} {b0 : Nat} {P : zk_H} (own nm : String) (hown : y.cls = own) (hnm : y.name = nm) (hy : plainFor y = true) (vs : List Value) (hlen : (lg_sl vs).length ≤ maxL)
    (body : ∀ (p : Program) (e : Env) (s : State) (m : MethodId) (args : Array Value) (below : List Frame) (meth : Method) (c : Code), zk_X p s m args meth c D g b0 cc maxL own nm ret → zV p l e rm s m args below meth c D b0 maxL 0 0 (MQ below Qc args s mc ms (zk_A b0)) P 0 (lv_args 0 vs) []) :
    Met l y (ws_ y cc maxL ret) rm (va_Pc vs (zk_pre D g b0 P)) Qc mc ms (zk_A b0) := by
  refine va_MetF (cc := cc) (maxL := maxL) (ret := ret) hy rfl ?_
  intro p e s m args below meth c s₁ B hml hv
  obtain ⟨rfl, hE, hP⟩ := hv
  have hts := atoms_spec (ws := ws_ y cc maxL ret) B.pre
  have hl := lv_entry vs hlen
  rw [lg_entry_eq]
  refine body p e s m _ below meth c ⟨B.exec, B.bytes, hml, ?_, fun w h => hts w (List.mem_cons_of_mem _ h), hE, B.returns, B.notSynchronized, ?_⟩ _ _ _ hP va_S.rf hl
  · rw [← hown]; exact findClass_of_methodNamed B.named
  · rw [← hnm]; exact (name_of_methodNamed B.named B.method).1
section ZV
variable {p : Program} {l : Launch} {e : Env} {R : Room} {s : State} {m : MethodId} {args : Array Value} {below : List Frame} {meth : Method} {c : Code} {D : zk_G} {g : zk_M} {b0 nL cells slots : Nat} {Q : State → Prop} {P : zk_H} {pc : Nat} {L : List (Nat × Value)} {rest : List Value} {cc : ByteArray} {own nm : String} {ret : Option FieldType}
theorem zv_sub {L' : List (Nat × Value)} {st : List Value} (ks : List Nat) (h : lv_pick L ks = L') (k : zV p l e R s m args below meth c D b0 nL cells slots Q P pc L' st) : zV p l e R s m args below meth c D b0 nL cells slots Q P pc L st := fun H locs ls h1 h2 h3 => k H locs ls h1 h2 (lv_sub h3 ks h)
theorem zv_widen {st : List Value} {c2 s2 : Nat} (h1 : cells ≤ c2) (h2 : slots ≤ s2) (k : zV p l e R s m args below meth c D b0 nL c2 s2 Q P pc L st) : zV p l e R s m args below meth c D b0 nL cells slots Q P pc L st := fun H locs ls a b c => W.widen h1 h2 (k H locs ls a b c)
theorem zv_iconst (X : zk_X p s m args meth c D g b0 cc nL own nm ret) {n : Int} {v : Int32} (d : decode cc pc = .ok (.iconst n, 1)) (hv : Int32.ofInt n = v) (k : zV p l e R s m args below meth c D b0 nL cells slots Q P (pc + 1) L (.int v :: rest)) : zV p l e R s m args below meth c D b0 nL cells slots Q P pc L rest := fun H locs ls h1 h2 h3 => lv_iconst X.1 X.2.1 d hv (k H locs ls h1 h2 h3)
theorem zv_bipush (X : zk_X p s m args meth c D g b0 cc nL own nm ret) {n : Int} {v : Int32} (d : decode cc pc = .ok (.bipush n, 2)) (hv : (Int8.ofInt n).toInt32 = v) (k : zV p l e R s m args below meth c D b0 nL cells slots Q P (pc + 2) L (.int v :: rest)) : zV p l e R s m args below meth c D b0 nL cells slots Q P pc L rest := fun H locs ls h1 h2 h3 => lv_bipush X.1 X.2.1 d hv (k H locs ls h1 h2 h3)
theorem zv_sipush (X : zk_X p s m args meth c D g b0 cc nL own nm ret) {n : Int} {v : Int32} (d : decode cc pc = .ok (.sipush n, 3)) (hv : (Int16.ofInt n).toInt32 = v) (k : zV p l e R s m args below meth c D b0 nL cells slots Q P (pc + 3) L (.int v :: rest)) : zV p l e R s m args below meth c D b0 nL cells slots Q P pc L rest := fun H locs ls h1 h2 h3 => lv_sipush X.1 X.2.1 d hv (k H locs ls h1 h2 h3)
theorem zv_lconst (X : zk_X p s m args meth c D g b0 cc nL own nm ret) {n : Fin 2} {v : Int64} (d : decode cc pc = .ok (.lconst n, 1)) (hv : Int64.ofNat (n : Nat) = v) (k : zV p l e R s m args below meth c D b0 nL cells slots Q P (pc + 1) L (.long v :: rest)) : zV p l e R s m args below meth c D b0 nL cells slots Q P pc L rest := fun H locs ls h1 h2 h3 => lv_lconst X.1 X.2.1 d hv (k H locs ls h1 h2 h3)
theorem zv_null (X : zk_X p s m args meth c D g b0 cc nL own nm ret) (d : decode cc pc = .ok (.aconst_null, 1)) (k : zV p l e R s m args below meth c D b0 nL cells slots Q P (pc + 1) L (va_rf none :: rest)) : zV p l e R s m args below meth c D b0 nL cells slots Q P pc L rest := fun H locs ls h1 h2 h3 => lv_null X.1 X.2.1 d (k H locs ls h1 h2 h3)
theorem zv_iload_n (X : zk_X p s m args meth c D g b0 cc nL own nm ret) {n : Fin 4} {x : Int32} (j : Nat) (d : decode cc pc = .ok (.iload_n n, 1)) (hj : L[j]? = some ((n : Nat), .int x)) (k : zV p l e R s m args below meth c D b0 nL cells slots Q P (pc + 1) L (.int x :: rest)) : zV p l e R s m args below meth c D b0 nL cells slots Q P pc L rest := fun H locs ls h1 h2 h3 => lv_iload_n X.1 X.2.1 d rfl (lv_at h3 j hj) (k H locs ls h1 h2 h3)
theorem zv_iload (X : zk_X p s m args meth c D g b0 cc nL own nm ret) {n : Nat} {x : Int32} (j : Nat) (d : decode cc pc = .ok (.iload n, 2)) (hj : L[j]? = some (n, .int x)) (k : zV p l e R s m args below meth c D b0 nL cells slots Q P (pc + 2) L (.int x :: rest)) : zV p l e R s m args below meth c D b0 nL cells slots Q P pc L rest := fun H locs ls h1 h2 h3 => lv_iload X.1 X.2.1 d (lv_at h3 j hj) (k H locs ls h1 h2 h3)
theorem zv_lload_n (X : zk_X p s m args meth c D g b0 cc nL own nm ret) {n : Fin 4} {x : Int64} (j : Nat) (d : decode cc pc = .ok (.lload_n n, 1)) (hj : L[j]? = some ((n : Nat), .long x)) (k : zV p l e R s m args below meth c D b0 nL cells slots Q P (pc + 1) L (.long x :: rest)) : zV p l e R s m args below meth c D b0 nL cells slots Q P pc L rest := fun H locs ls h1 h2 h3 => lv_lload_n X.1 X.2.1 d rfl (lv_at h3 j hj) (k H locs ls h1 h2 h3)
theorem zv_dload (X : zk_X p s m args meth c D g b0 cc nL own nm ret) {n : Nat} {x : UInt64} (j : Nat) (d : decode cc pc = .ok (.dload n, 2)) (hj : L[j]? = some (n, .double x)) (k : zV p l e R s m args below meth c D b0 nL cells slots Q P (pc + 2) L (.double x :: rest)) : zV p l e R s m args below meth c D b0 nL cells slots Q P pc L rest := fun H locs ls h1 h2 h3 => lv_dload X.1 X.2.1 d (lv_at h3 j hj) (k H locs ls h1 h2 h3)
theorem zv_aload_n (X : zk_X p s m args meth c D g b0 cc nL own nm ret) {n : Fin 4} {x : Option Nat} (j : Nat) (d : decode cc pc = .ok (.aload_n n, 1)) (hj : L[j]? = some ((n : Nat), va_rf x)) (k : zV p l e R s m args below meth c D b0 nL cells slots Q P (pc + 1) L (va_rf x :: rest)) : zV p l e R s m args below meth c D b0 nL cells slots Q P pc L rest := fun H locs ls h1 h2 h3 => by
  cases x with
  | none => exact lv_aload_nN X.1 X.2.1 d rfl (lv_at h3 j hj) (k H locs ls h1 h2 h3)
  | some a => exact lv_aload_n X.1 X.2.1 d rfl (lv_at h3 j hj) (k H locs ls h1 h2 h3)
theorem zv_aload (X : zk_X p s m args meth c D g b0 cc nL own nm ret) {n : Nat} {x : Option Nat} (j : Nat) (d : decode cc pc = .ok (.aload n, 2)) (hj : L[j]? = some (n, va_rf x)) (k : zV p l e R s m args below meth c D b0 nL cells slots Q P (pc + 2) L (va_rf x :: rest)) : zV p l e R s m args below meth c D b0 nL cells slots Q P pc L rest := fun H locs ls h1 h2 h3 => by
  cases x with
  | none => exact lv_aloadN X.1 X.2.1 d (lv_at h3 j hj) (k H locs ls h1 h2 h3)
  | some a => exact lv_aload X.1 X.2.1 d (lv_at h3 j hj) (k H locs ls h1 h2 h3)
/-- the list of locals behind a store of one word, of two -/
def zk_s1 (L : List (Nat × Value)) (i : Nat) (v : Value) : List (Nat × Value) := (i, v) :: L.filter (fun q => !(q.1 == i) && !(q.1 + 1 == i && q.2.category == 2))
def zk_s2 (L : List (Nat × Value)) (i : Nat) (v : Value) : List (Nat × Value) := (i, v) :: L.filter (fun q => !(q.1 == i) && (!(q.1 == i + 1) && !(q.1 + 1 == i && q.2.category == 2)))
theorem zv_istore_n (X : zk_X p s m args meth c D g b0 cc nL own nm ret) {n : Fin 4} {i : Nat} {x : Int32} {L' : List (Nat × Value)} (d : decode cc pc = .ok (.istore_n n, 1)) (hi : (n : Nat) = i) (hn : i < nL) (hL : zk_s1 L i (.int x) = L') (k : zV p l e R s m args below meth c D b0 nL cells slots Q P (pc + 1) L' rest) : zV p l e R s m args below meth c D b0 nL cells slots Q P pc L (.int x :: rest) := fun H locs ls h1 h2 h3 => lv_istore_n X.1 X.2.1 d hi h3 hn hL (fun ls hl => k H locs ls h1 h2 hl)
theorem zv_istore (X : zk_X p s m args meth c D g b0 cc nL own nm ret) {n : Nat} {x : Int32} {L' : List (Nat × Value)} (d : decode cc pc = .ok (.istore n, 2)) (hn : n < nL) (hL : zk_s1 L n (.int x) = L') (k : zV p l e R s m args below meth c D b0 nL cells slots Q P (pc + 2) L' rest) : zV p l e R s m args below meth c D b0 nL cells slots Q P pc L (.int x :: rest) := fun H locs ls h1 h2 h3 => lv_istore X.1 X.2.1 d h3 hn hL (fun ls hl => k H locs ls h1 h2 hl)
theorem zv_lstore_n (X : zk_X p s m args meth c D g b0 cc nL own nm ret) {n : Fin 4} {i : Nat} {x : Int64} {L' : List (Nat × Value)} (d : decode cc pc = .ok (.lstore_n n, 1)) (hi : (n : Nat) = i) (hn : i + 1 < nL) (hL : zk_s2 L i (.long x) = L') (k : zV p l e R s m args below meth c D b0 nL cells slots Q P (pc + 1) L' rest) : zV p l e R s m args below meth c D b0 nL cells slots Q P pc L (.long x :: rest) := fun H locs ls h1 h2 h3 => lv_lstore_n X.1 X.2.1 d hi h3 hn hL (fun ls hl => k H locs ls h1 h2 hl)
theorem zv_dstore (X : zk_X p s m args meth c D g b0 cc nL own nm ret) {n : Nat} {x : UInt64} {L' : List (Nat × Value)} (d : decode cc pc = .ok (.dstore n, 2)) (hn : n + 1 < nL) (hL : zk_s2 L n (.double x) = L') (k : zV p l e R s m args below meth c D b0 nL cells slots Q P (pc + 2) L' rest) : zV p l e R s m args below meth c D b0 nL cells slots Q P pc L (.double x :: rest) := fun H locs ls h1 h2 h3 => lv_dstore X.1 X.2.1 d h3 hn hL (fun ls hl => k H locs ls h1 h2 hl)
theorem zv_astore_n (X : zk_X p s m args meth c D g b0 cc nL own nm ret) {n : Fin 4} {i : Nat} {x : Option Nat} {L' : List (Nat × Value)} (d : decode cc pc = .ok (.astore_n n, 1)) (hi : (n : Nat) = i) (hn : i < nL) (hL : zk_s1 L i (va_rf x) = L') (k : zV p l e R s m args below meth c D b0 nL cells slots Q P (pc + 1) L' rest) : zV p l e R s m args below meth c D b0 nL cells slots Q P pc L (va_rf x :: rest) := fun H locs ls h1 h2 h3 => by
  cases x with
  | none => exact lv_astore_nN X.1 X.2.1 d hi h3 hn hL (fun ls hl => k H locs ls h1 h2 hl)
  | some a => exact lv_astore_n X.1 X.2.1 d hi h3 hn hL (fun ls hl => k H locs ls h1 h2 hl)
theorem zv_astore (X : zk_X p s m args meth c D g b0 cc nL own nm ret) {n : Nat} {x : Option Nat} {L' : List (Nat × Value)} (d : decode cc pc = .ok (.astore n, 2)) (hn : n < nL) (hL : zk_s1 L n (va_rf x) = L') (k : zV p l e R s m args below meth c D b0 nL cells slots Q P (pc + 2) L' rest) : zV p l e R s m args below meth c D b0 nL cells slots Q P pc L (va_rf x :: rest) := fun H locs ls h1 h2 h3 => by
  cases x with
  | none => exact lv_astoreN X.1 X.2.1 d h3 hn hL (fun ls hl => k H locs ls h1 h2 hl)
  | some a => exact lv_astore X.1 X.2.1 d h3 hn hL (fun ls hl => k H locs ls h1 h2 hl)
theorem zv_iinc (X : zk_X p s m args meth c D g b0 cc nL own nm ret) {i : Nat} {n : Int} {x v : Int32} {L' : List (Nat × Value)} (j : Nat) (d : decode cc pc = .ok (.iinc i n, 3)) (hj : L[j]? = some (i, .int x)) (hv : x + Int32.ofInt n = v) (hn : i < nL) (hL : zk_s1 L i (.int v) = L') (k : zV p l e R s m args below meth c D b0 nL cells slots Q P (pc + 3) L' rest) : zV p l e R s m args below meth c D b0 nL cells slots Q P pc L rest := fun H locs ls h1 h2 h3 => lv_iinc X.1 X.2.1 d h3 hj hv hn hL (fun ls hl => k H locs ls h1 h2 hl)
end ZV
