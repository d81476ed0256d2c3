/-! OUR KIT 11: the five reasons (constants of an enum) -/
/-- the receiver is the constant numbered i -/
def ze_o (g : zk_M) (r : Option Nat) (i : Nat) (K : Nat → Prop) : Prop := r = some (g (26 + i)) ∧ K (g (26 + i))
/-- the place of a constant -/
def ze_n (g : zk_M) (r : Option Nat) (K : Int32 → Prop) : Prop := ∃ i : Nat, i < 5 ∧ r = some (g (26 + i)) ∧ K (nI i)
section ZV11
variable {p : Program} {l : Launch} {e : Env} {R : Room} {s : State} {m : MethodId} {args : Array Value} {below : List Frame} {meth : Method} {c : Code} {D : zk_G} {g : zk_M} {b0 nL cells slots mc ms : Nat} {Q : State → Prop} {P : zk_H} {pc : Nat} {L : List (Nat × Value)} {st rest : List Value} {cc : ByteArray} {own nm : String} {ret : Option FieldType}
theorem zk_recvE (X : zk_X p s m args meth c D g b0 cc nL own nm ret) {H : Heap} {locs : List Loc} {i : Nat} {E : String} (hi : zk_ens[i]? = some E) (hS : va_S (zk_A b0) s.heap H locs) : ∃ cell : Cell, H[g (26 + i)]? = some cell ∧ cell.vm.isStatics = false ∧ s.vm.findClass E = some cell.cls := va_Orecv (X.2.2.2.2.2.1.2.2 i E hi).1 hS
theorem zr_E (X : zk_X p s m args meth c D g b0 cc nL own nm ret) {x y : MethodName} {owner E : String} {bytes : ByteArray} {maxL index n i : Nat} {r0 : Option Nat} {K : Nat → Prop} {rt : Option FieldType} {rm : Room} {As : List Value} {Qc : Array Value → State → Outcome → State → Prop} (h : ze_o g r0 i K) (hi : zk_ens[i]? = some E) (hM : ∀ a, K a → Met l y (ws_ y bytes maxL rt) rm (va_Pc (.ref a :: As) (zk_pre D g b0 P)) Qc mc ms (zk_A b0)) (cw : va_CU R s args own E owner index x y bytes maxL rt (ws_ y bytes maxL rt) rm mc ms n) (hn : As.length = n) (hst : st = As.reverse ++ va_rf r0 :: rest) (hW : (rest.map fun v => v.category).sum ≤ 8) (d : decode cc pc = .ok (.invokevirtual index, 3)) (hf : cells + mc ≤ R.cells ∧ slots + ms ≤ R.slots) : ∃ av : Array Value, zRun p l e R s m args below meth c D b0 nL cells slots mc ms P pc L st rest (Qc av) := by
  obtain ⟨rfl, hK⟩ := h
  exact ⟨_, fun H locs ls h1 h2 h3 => va_runU X.fix (hM _ hK) cw ⟨zk_pre.blind, zk_recvE X hi h2, X.pre h1 h2⟩ rfl hn h3.1 hst (lv_room hW) d hf⟩
/-- what a call asks whose callee's class has no word "initialised" -/
def zu_CU (R : Room) (s : State) (args : Array Value) (own C owner : String) (index : Nat) (x y : MethodName) (bytes : ByteArray) (maxL : Nat) (ret : Option FieldType) (rm : Room) (mc ms n : Nat) : Prop :=
  (rm.cells = mc ∧ rm.slots = ms ∧ rm.frames + 1 ≤ R.frames ∧ 8 + (maxL + 11) + rm.locals ≤ R.locals) ∧ (Cond.code y bytes maxL ret).before args s = true ∧
  (owner ≠ "java/lang/invoke/MethodHandle" ∧ owner ≠ "java/lang/invoke/VarHandle") ∧ (∀ sig, parseMethodDescriptor x.desc = some sig → n = sig.parameters.length) ∧ (Cond.methodLink own index x).before args s = true ∧ (Cond.sameMethod x.cls owner x.name x.desc).before args s = true ∧
  va_Decl s ⟨owner, x.name, x.desc⟩ ∧ (Cond.selects C x y).before args s = true ∧ (Cond.instanceMethod y).before args s = true
theorem zu_cw (X : zk_X p s m args meth c D g b0 cc nL own nm ret) {C owner : String} {index maxL : Nat} {x y : MethodName} {bytes : ByteArray} {rt : Option FieldType} {rm : Room} (n : Nat) (h1 : Cond.methodLink own index x ∈ lw_all) (h2 : Cond.sameMethod x.cls owner x.name x.desc ∈ lw_all) (h3 : Cond.selects C x y ∈ lw_all) (h4 : Cond.instanceMethod y ∈ lw_all) (h6 : Cond.code y bytes maxL rt ∈ lw_all) (hrc : rm.cells = mc) (hrs : rm.slots = ms)
    (hz : va_Nw (.declares ⟨owner, x.name, x.desc⟩) s) (hd : owner ≠ "java/lang/invoke/MethodHandle" ∧ owner ≠ "java/lang/invoke/VarHandle" ∧ (parseMethodDescriptor x.desc).map (fun d => d.parameters.length) = some n) (hR : rm.frames + 1 ≤ R.frames ∧ 8 + (maxL + 11) + rm.locals ≤ R.locals) : zu_CU R s args own C owner index x y bytes maxL rt rm mc ms n := by
  refine ⟨⟨hrc, hrs, hR.1, hR.2⟩, X.w h6, ⟨hd.1, hd.2.1⟩, fun sig h => ?_, X.w h1, X.w h2, va_Decl.abs hz, X.w h3, X.w h4⟩
  have k := hd.2.2
  rw [h] at k
  exact (Option.some.inj k).symm
theorem zu_run (X : zk_X p s m args meth c D g b0 cc nL own nm ret) {x y : MethodName} {owner E : String} {bytes : ByteArray} {maxL index n i : Nat} {r0 : Option Nat} {K : Nat → Prop} {rt : Option FieldType} {rm : Room} {As : List Value} {Qc : Array Value → State → Outcome → State → Prop} (h : ze_o g r0 i K) (hi : zk_ens[i]? = some E) (hM : ∀ a, K a → zu_Met l y (ws_ y bytes maxL rt) rm (va_Pc (.ref a :: As) (zk_pre D g b0 P)) Qc mc ms (zk_A b0)) (cw : zu_CU R s args own E owner index x y bytes maxL rt rm mc ms n) (hG : GoodIn lw_all (ws_ y bytes maxL rt)) (hn : As.length = n) (hst : st = As.reverse ++ va_rf r0 :: rest) (hW : (rest.map fun v => v.category).sum ≤ 8) (d : decode cc pc = .ok (.invokevirtual index, 3)) (hf : cells + mc ≤ R.cells ∧ slots + ms ≤ R.slots) : ∃ av : Array Value, zRun p l e R s m args below meth c D b0 nL cells slots mc ms P pc L st rest (Qc av) := by
  obtain ⟨rfl, hK⟩ := h
  refine ⟨(Value.ref (g (26 + i)) :: As).toArray, fun H locs ls h1 h2 h3 => ?_⟩
  obtain ⟨cellB, hcB, hoB, hclB⟩ := zk_recvE X hi h2
  obtain ⟨⟨hrc, hrs, hfr, hlo⟩, kcode, kmh, klen, klink, ksame, kdecl, ksel, kinst⟩ := cw
  have hB : Back l R p e below s args y 3 8 (PreOf R mc ms (va_Pc (.ref (g (26 + i)) :: As) (zk_pre D g b0 P))) (PostOf Qc mc ms (zk_A b0)) := zu_back (bytes := bytes) (maxL := maxL) (ret := rt) (hM _ hK) zk_pre.blind hrc hrs hfr hlo (pay_in X.hts hG) List.mem_cons_self
  obtain ⟨hx, hb, hml, ho, -⟩ := X.fix
  intro T hT Y
  obtain ⟨v, vm₁, ⟨U', l2, c2, s2⟩, hW₁, X', ⟨g', mk, t, L', e1, e2, hq, k1, hL, k2, k3⟩, st'⟩ := va_callVU Y hx (C := E) (owner := owner) (bytes := bytes) (maxL := maxL) (ret := rt) ho klink ksame kdecl kmh ksel kinst kcode hB (by rw [hT]; exact hcB) hoB hclB rfl (h3.1.trans hml.symm) (argsL := As) (rest := rest) (fun sig h => hn.trans (klen sig h)) hst (lv_room hW) (by rw [hb]; exact d)
    (fun vm₁ hW₁ => ⟨hf.1, hf.2, X.pre h1 h2 (T.setVm vm₁) hT hW₁⟩)
  dsimp only [Pt.U, Pt.locs, Pt.cells, Pt.slots] at X' e1 e2 k1 k2 k3 st'
  subst k1; subst k2; subst k3
  exact ⟨v, (T.setVm vm₁).calling g' mk (Value.ref (g (26 + i)) :: As).toArray, t, U', L', hT, X', hL, e1, e2, hq, st'⟩
end ZV11
theorem zu_enter {l : Launch} {y : MethodName} {cc : ByteArray} {maxL : Nat} {ret : Option FieldType} {rm : Room} {Qc : Array Value → State → Outcome → State → Prop} {mc ms : Nat} {D : zk_G} {g : zk_M} {b0 : Nat} {P : zk_H} (own nm : String) (hown : y.cls = own) (hnm : y.name = nm) (hy : plainFor y = true) (vs : List Value) (hlen : (lg_sl vs).length ≤ maxL)
    (body : ∀ (p : Program) (e : Env) (s : State) (m : MethodId) (args : Array Value) (below : List Frame) (meth : Method) (c : Code), zk_X p s m args meth c D g b0 cc maxL own nm ret → zV p l e rm s m args below meth c D b0 maxL 0 0 (MQ below Qc args s mc ms (zk_A b0)) P 0 (lv_args 0 vs) []) :
    zu_Met l y (ws_ y cc maxL ret) rm (va_Pc vs (zk_pre D g b0 P)) Qc mc ms (zk_A b0) := by
  refine zu_body (code := cc) (maxLocals := maxL) (ret := ret) hy ?_ ?_
  · intro args s m h hn
    obtain ⟨meth, c, h1, h2, h3, h4, h5, h6, -, -⟩ := Cond.code_spec hn (atoms_spec (ws := ws_ y cc maxL ret) h _ List.mem_cons_self)
    exact ⟨meth, c, h1, h2, h3, h4, h5, h6⟩
  · intro p e s m args below meth c s₁ hSt hh0 hexec hnamed hpre hmeth hret hlocks hbytes hml hv
    obtain ⟨rfl, hE, hP⟩ := hv
    have hts := atoms_spec (ws := ws_ y cc maxL ret) hpre
    have hl := lv_entry vs hlen
    have hb := body p e s m vs.toArray below meth c ⟨hexec, hbytes, hml, by rw [← hown]; exact findClass_of_methodNamed hnamed, fun w h => hts w (List.mem_cons_of_mem _ h), hE, hret, hlocks, by rw [← hnm]; exact (name_of_methodNamed hnamed hmeth).1⟩ s.heap [] _ hP va_S.rf hl
    rw [← lg_entry_eq] at hb
    obtain ⟨t, a1, o, b1, b2, b3⟩ := hb s₁ hh0 hSt
    exact ⟨t, o, a1, b1, b2, ⟨b3.1, b3.2⟩⟩
theorem md_J17_ordinal : yJ17_ordinal.cls ≠ "java/lang/invoke/MethodHandle" ∧ yJ17_ordinal.cls ≠ "java/lang/invoke/VarHandle" ∧ (parseMethodDescriptor yJ17_ordinal.desc).map (fun d => d.parameters.length) = some 0 := by decide +kernel
theorem wk_J17_ordinal (l : Launch) {D : zk_G} {g : zk_M} {b0 : Nat} {post : Int32 → Prop} {i : Nat} {P : zk_H} (hi : i < 5) (hh : post (nI i)) : Met l yJ17_ordinal (ws_ yJ17_ordinal cJ17_ordinal 1 (some .int)) ({ frames := 0, cells := 0, slots := 0, locals := 0 } : Room) (va_Pc [.ref (g (26 + i))] (zk_pre D g b0 P)) (va_Qi (fun r u => post r ∧ u = P) (zk_B D b0) (zk_A b0)) 0 0 (zk_A b0) := by
  refine zk_enter "java/lang/Enum" "ordinal" rfl rfl (plainFor_of_name (by decide)) [.ref (g (26 + i))] (Nat.le_of_ble_eq_true rfl) ?_
  intro p e s m args below meth c X
  refine zk_at0 (L' := [(0, va_rf (some (g (26 + i))))]) (rfl) ?_
  refine zv_aload_n X 0 dJ17_ordinal_0 rfl ?_
  obtain ⟨E, hE⟩ : ∃ E, zk_ens[i]? = some E := ⟨zk_ens[i]'(by simpa [zk_ens] using hi), List.getElem?_eq_getElem _⟩
  refine fun H locs ls h1 h2 h3 => vk_getf X.1 X.2.1 (X.2.2.2.2.2.1.2.2 i E hE).2 h2 X.2.2.2.1 (X.w q2661) (fun x hx => hx) dJ17_ordinal_1 ?_
  exact zv_iret X rfl (Nat.le_refl _) (Nat.le_refl _) dJ17_ordinal_4 ⟨hh, rfl⟩ H locs ls h1 h2 h3
