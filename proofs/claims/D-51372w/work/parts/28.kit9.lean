/-! OUR KIT 9: methods that throw our Fault (class 6) -/
def zx_B (D : zk_G) (b0 : Nat) (E : String) (u : zk_H) (t : State) : Prop := E = "LandFolio$Fault" ∧ zk_B D b0 u t
def zxRun (p : Program) (l : Launch) (e : Env) (R : Room) (s : State) (m : MethodId) (args : Array Value) (below : List Frame) (meth : Method) (c : Code) (D : zk_G) (b0 nL cells slots mc ms : Nat) (P : zk_H) (pc : Nat) (L : List (Nat × Value)) (st rest : List Value) (Qa : State → Outcome → State → Prop) (XC : Addr → String → State → State → Prop) : Prop :=
  ∀ (H : Heap) (locs : List Loc) (ls : Array Slot), zk_R D b0 P s H → va_S (zk_A b0) s.heap H locs → lv_has ls nL L → zx_Run p l e R s m args below meth c H locs cells slots mc ms (F0 m pc ls st) rest Qa XC (zk_A b0)
/-- throws: the object, and the heap -/
def zx_t (P : zk_H) (r : Option Nat) (px : Nat → zk_H → Prop) : Prop := ∃ (q : Nat) (fs : List Value), r = some q ∧ P q = some (true, .inr (6, fs)) ∧ px q P
theorem zx_enter {l : Launch} {y : MethodName} {cc : ByteArray} {maxL : Nat} {ret : Option FieldType} {rm : Room} {Qc : Array Value → State → Outcome → State → Prop} {XC : Addr → String → State → State → Prop} {mc ms : Nat} {D : zk_G} {g : zk_M} {b0 : Nat} {P : zk_H} (own nm : String) (hown : y.cls = own) (hnm : y.name = nm) (hy : plainName y.cls = true) (vs : List Value) (hlen : (lg_sl vs).length ≤ maxL)
    (body : ∀ (p : Program) (e : Env) (s : State) (m : MethodId) (args : Array Value) (below : List Frame) (meth : Method) (c : Code), zk_X p s m args meth c D g b0 cc maxL own nm ret → (∀ x ∈ c.exceptionTable.toList, False) → zV p l e rm s m args below meth c D b0 maxL 0 0 (zx_MQ below Qc XC args s mc ms (zk_A b0)) P 0 (lv_args 0 vs) []) :
    zx_Met l y (ws_ y cc maxL ret) rm (va_Pc vs (zk_pre D g b0 P)) Qc XC mc ms (zk_A b0) := by
  refine MetFree.of_bodyS (code := cc) (maxLocals := maxL) (ret := ret) hy ?_ ?_
  · intro args s m h hn
    obtain ⟨meth, c, h1, h2, h3, h4, h5, h6, -, -⟩ := Cond.code_spec hn (atoms_spec (ws := ws_ y cc maxL ret) h _ List.mem_cons_self)
    exact ⟨meth, c, h1, h2, h3, h4, h5, h6⟩
  · intro p e s m args below meth c s₁ B hml hv _
    have hh0 : s₁.heap = s.heap := by rw [B.state]; rfl
    have ht : ∀ x ∈ c.exceptionTable.toList, False := by
      obtain ⟨meth9, c9, h1, h2, -, -, -, -, h7, -⟩ := Cond.code_spec B.named (atoms_spec (ws := ws_ y cc maxL ret) B.pre _ List.mem_cons_self)
      cases Option.some.inj (h1.symm.trans B.method)
      cases Option.some.inj (h2.symm.trans (Stand.of_body B).code)
      intro x hx
      rw [Array.isEmpty_iff.mp h7] at hx
      exact absurd hx (by simp)
    obtain ⟨rfl, hE, hP⟩ := hv
    have hts := atoms_spec (ws := ws_ y cc maxL ret) B.pre
    have hl := lv_entry vs hlen
    have K := body p e s m _ below meth c ⟨B.exec, B.bytes, hml, by rw [← hown]; exact findClass_of_methodNamed B.named, fun w h => hts w (List.mem_cons_of_mem _ h), hE, B.returns, B.notSynchronized, by rw [← hnm]; exact (name_of_methodNamed B.named B.method).1⟩ ht _ _ _ hP va_S.rf hl
    rw [← lg_entry_eq] at K
    obtain ⟨t, a1, o, b1, b2, b3⟩ := K s₁ hh0 (Stand.of_body B)
    exact ⟨t, o, a1, b1, b2, b3⟩
section ZV9
variable {p : Program} {l : Launch} {e : Env} {R : Room} {s : State} {m : MethodId} {args : Array Value} {below : List Frame} {meth : Method} {c : Code} {D : zk_G} {g : zk_M} {b0 nL cells slots mc ms mc0 ms0 : Nat} {Q : State → Prop} {P : zk_H} {pc : Nat} {L : List (Nat × Value)} {st rest : List Value} {cc : ByteArray} {own nm : String} {ret : Option FieldType} {px : Nat → zk_H → Prop} {Qc : Array Value → State → Outcome → State → Prop}
theorem zvx_ret {XC : Addr → String → State → State → Prop} (k : zV p l e R s m args below meth c D b0 nL cells slots (MQ below Qc args s mc0 ms0 (zk_A b0)) P pc L st) : zV p l e R s m args below meth c D b0 nL cells slots (zx_MQ below Qc XC args s mc0 ms0 (zk_A b0)) P pc L st := fun H locs ls h1 h2 h3 => zx_ret (k H locs ls h1 h2 h3)
theorem zx_up (X : zk_X p s m args meth c D g b0 cc nL own nm ret) (hT : ∀ x ∈ c.exceptionTable.toList, False) {H : Heap} {locs : List Loc} {ls : Array Slot} {q : Nat} {ce : Cell} (h1 : zk_R D b0 P s H) (h2 : va_S (zk_A b0) s.heap H locs) (hce : H[q]? = some ce) (hv : ce.vm = .none) (hcl : s.vm.findClass "LandFolio$Fault" = some ce.cls) (hp : px q P) (hc : cells ≤ mc0) (hs : slots ≤ ms0) : zx_W p l e R s m args below meth c H locs cells slots (zx_MQ below Qc (zx_X px (zx_B D b0) (zk_A b0)) args s mc0 ms0 (zk_A b0)) (F0 m pc ls rest) q :=
  zx_out (fun x hx => absurd (hT x hx) id) X.2.2.2.2.2.2.2.1 hce hv hcl (fun t ht hA => ⟨P, hp, ⟨rfl, by show zk_R D b0 P t t.heap; rw [ht]; exact h1.moved hA⟩, h2.F ht⟩) h2.2.2 hc hs
theorem zvx_athrow (X : zk_X p s m args meth c D g b0 cc nL own nm ret) (hT : ∀ x ∈ c.exceptionTable.toList, False) {r : Option Nat} (hc : cells ≤ mc0) (hs : slots ≤ ms0) (d : decode cc pc = .ok (.athrow, 1)) (h : zx_t P r px) : zV p l e R s m args below meth c D b0 nL cells slots (zx_MQ below Qc (zx_X px (zx_B D b0) (zk_A b0)) args s mc0 ms0 (zk_A b0)) P pc L (va_rf r :: rest) := fun H locs ls h1 h2 h3 => by
  obtain ⟨q, fs, rfl, hq, hp⟩ := h
  obtain ⟨⟨r0, g1, cell, q1, q2, q3, q4⟩, -, -⟩ := h1.2 q true _ hq
  have hcl := (X.K.1.1 6 _ (rfl : zk_cl[6]? = some (RX6, TX6, 7))).2.1
  exact zx_athrow X.1 X.2.1 d (zx_up X hT h1 h2 q1 q3 (by rw [q2]; exact hcl) hp hc hs)
theorem zx_X.pre (X : zk_X p s m args meth c D g b0 cc nL own nm ret) {H : Heap} {locs : List Loc} {As : List Value} (h1 : zk_R D b0 P s H) (h2 : va_S (zk_A b0) s.heap H locs) (U : State) (hU : U.heap = H) (hW : s.WarmedH U.vm) : va_Pc As (zk_pre D g b0 P) As.toArray U := X.pre h1 h2 U hU hW
theorem zrx_Vl (X : zk_X p s m args meth c D g b0 cc nL own nm ret) {y : MethodName} {bytes : ByteArray} {maxL index n : Nat} {r0 : Option Nat} {cs : List Nat} {K : Nat → Prop} {rt : Option FieldType} {rm : Room} {As : List Value} {Qc : Array Value → State → Outcome → State → Prop} {XC : Addr → String → State → State → Prop} (h : zo P r0 cs K) (hM : ∀ a, K a → zx_Met l y (ws_ y bytes maxL rt) rm (va_Pc (.ref a :: As) (zk_pre D g b0 P)) Qc XC mc ms (zk_A b0)) (hc : ∀ ci ∈ cs, ∃ r, zk_cl[ci]? = some r ∧ CallW R s args own r.1 index y bytes maxL rt (ws_ y bytes maxL rt) rm mc ms n) (hn : As.length = n) (hst : st = As.reverse ++ va_rf r0 :: rest) (hW : (rest.map fun v => v.category).sum ≤ 8) (d : decode cc pc = .ok (.invokevirtual index, 3)) (hf : cells + mc ≤ R.cells ∧ slots + ms ≤ R.slots) : ∃ av : Array Value, zxRun p l e R s m args below meth c D b0 nL cells slots mc ms P pc L st rest (Qc av) XC := by
  obtain ⟨a, t, ci, fs, rfl, ha, hci, hK⟩ := h
  obtain ⟨r, hr, cw⟩ := hc ci hci
  exact ⟨_, fun H locs ls h1 h2 h3 => zx_runV X.fix (hM a hK) cw ⟨zk_pre.blind, zk_recv X h1 ha hr, X.pre h1 h2⟩ rfl hn h3.1 hst (lv_room hW) d hf⟩
theorem zvx_ci (X : zk_X p s m args meth c D g b0 cc nL own nm ret) (hT : ∀ x ∈ c.exceptionTable.toList, False) {post : Int32 → zk_H → Prop} (hc : cells + mc ≤ mc0) (hs : slots + ms ≤ ms0) (hr : ∃ av : Array Value, zxRun p l e R s m args below meth c D b0 nL cells slots mc ms P pc L st rest (va_Qi post (zk_B D b0) (zk_A b0) av) (zx_X px (zx_B D b0) (zk_A b0))) (kk : ∀ (x : Int32) (P : zk_H), post x P → zV p l e R s m args below meth c D b0 nL (cells + mc) (slots + ms) (zx_MQ below Qc (zx_X px (zx_B D b0) (zk_A b0)) args s mc0 ms0 (zk_A b0)) P (pc + 3) L (.int x :: rest)) : zV p l e R s m args below meth c D b0 nL cells slots (zx_MQ below Qc (zx_X px (zx_B D b0) (zk_A b0)) args s mc0 ms0 (zk_A b0)) P pc L st := fun H locs ls h1 h2 h3 => zx_calli (hr.choose_spec H locs ls h1 h2 h3) h2 (fun q _ h => h) (fun q h => h) (fun q _ h => h)
  (fun E ce q9 u t H1 locs1 ht hvm hp hB hz hk hS hce hcv hcl => by
    obtain ⟨rfl, hB⟩ := hB
    exact zx_up X hT (zk_back hB ht hvm) hS hce hcv hcl hp hc hs)
  (fun x u t H1 locs1 ht hvm hp hB hz hk hS => kk x u hp H1 locs1 ls (zk_back hB ht hvm) hS h3)
theorem zvx_cv (X : zk_X p s m args meth c D g b0 cc nL own nm ret) (hT : ∀ x ∈ c.exceptionTable.toList, False) {post : zk_H → Prop} (hc : cells + mc ≤ mc0) (hs : slots + ms ≤ ms0) (hr : ∃ av : Array Value, zxRun p l e R s m args below meth c D b0 nL cells slots mc ms P pc L st rest (va_Qv post (zk_B D b0) (zk_A b0) av) (zx_X px (zx_B D b0) (zk_A b0))) (kk : ∀ (P : zk_H), post P → zV p l e R s m args below meth c D b0 nL (cells + mc) (slots + ms) (zx_MQ below Qc (zx_X px (zx_B D b0) (zk_A b0)) args s mc0 ms0 (zk_A b0)) P (pc + 3) L rest) : zV p l e R s m args below meth c D b0 nL cells slots (zx_MQ below Qc (zx_X px (zx_B D b0) (zk_A b0)) args s mc0 ms0 (zk_A b0)) P pc L st := fun H locs ls h1 h2 h3 => zx_callv (hr.choose_spec H locs ls h1 h2 h3) h2 (fun q _ h => h) (fun q h => h) (fun q _ h => h)
  (fun E ce q9 u t H1 locs1 ht hvm hp hB hz hk hS hce hcv hcl => by
    obtain ⟨rfl, hB⟩ := hB
    exact zx_up X hT (zk_back hB ht hvm) hS hce hcv hcl hp hc hs)
  (fun u t H1 locs1 ht hvm hp hB hz hk hS => kk u hp H1 locs1 ls (zk_back hB ht hvm) hS h3)
end ZV9
