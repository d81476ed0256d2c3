/-! OUR KIT 10: a method with a table of handlers (load) -/
abbrev hh_X0_load : List (Nat × Nat × Nat × Nat) := [(0, 19, 27, 168), (0, 19, 45, 0), (27, 38, 45, 0), (45, 47, 45, 0)]
theorem zk_enterW {l : Launch} {y : MethodName} {cc : ByteArray} {maxL : Nat} {ret : Option FieldType} {hh : List (Nat × Nat × Nat × Nat)} {rm : Room} {Qc : Array Value → State → Outcome → State → Prop} {mc ms : Nat} {D : zk_G} {g : zk_M} {b0 : Nat} {P : zk_H} (own nm : String) (hown : y.cls = own) (hnm : y.name = nm) (hy : plainName y.cls = true) (vs : List Value) (hlen : (lg_sl vs).length ≤ maxL)
    (body : ∀ (p : Program) (e : Env) (s : State) (m : MethodId) (args : Array Value) (below : List Frame) (meth : Method) (c : Code), zk_X p s m args meth c D g b0 cc maxL own nm ret → c.exceptionTable.toList.map (fun h => (h.startPc, h.endPc, h.handlerPc, h.catchType)) = hh → zV p l e rm s m args below meth c D b0 maxL 0 0 (MQ below Qc args s mc ms (zk_A b0)) P 0 (lv_args 0 vs) []) :
    Met l y (wsW_ y cc maxL ret hh) rm (va_Pc vs (zk_pre D g b0 P)) Qc mc ms (zk_A b0) := by
  refine MetFree.of_bodyS (code := cc) (maxLocals := maxL) (ret := ret) hy ?_ ?_
  · intro args s m h hn
    obtain ⟨m9, meth, c, hn9, h1, h2, h3, h4, -, h5, h6, -⟩ := Cond.codeWith_spec (atoms_spec (ws := wsW_ y cc maxL ret hh) h _ List.mem_cons_self)
    cases hn.symm.trans hn9
    exact ⟨meth, c, h1, h2, h3, h4, h5, h6⟩
  · intro p e s m args below meth c s₁ B hml hv _
    have hh0 : s₁.heap = s.heap := by rw [B.state]; rfl
    have ht : c.exceptionTable.toList.map (fun h => (h.startPc, h.endPc, h.handlerPc, h.catchType)) = hh := by
      obtain ⟨m9, meth9, c9, hn9, h1, h2, -, -, h7, -⟩ := Cond.codeWith_spec (atoms_spec (ws := wsW_ y cc maxL ret hh) B.pre _ List.mem_cons_self)
      cases B.named.symm.trans hn9
      cases Option.some.inj (h1.symm.trans B.method)
      cases Option.some.inj (h2.symm.trans (Stand.of_body B).code)
      exact h7
    obtain ⟨rfl, hE, hP⟩ := hv
    have hts := atoms_spec (ws := wsW_ y cc maxL ret hh) B.pre
    have hl := lv_entry vs hlen
    have K := body p e s m _ below meth c ⟨B.exec, B.bytes, hml, by rw [← hown]; exact findClass_of_methodNamed B.named, fun w h => hts w (List.mem_cons_of_mem _ h), hE, B.returns, B.notSynchronized, by rw [← hnm]; exact (name_of_methodNamed B.named B.method).1⟩ ht _ _ _ hP va_S.rf hl
    rw [← lg_entry_eq] at K
    obtain ⟨t, a1, o, b1, b2, b3⟩ := K s₁ hh0 (Stand.of_body B)
    exact ⟨t, o, a1, b1, b2, b3.1, b3.2⟩
section ZV10
variable {p : Program} {l : Launch} {e : Env} {R : Room} {s : State} {m : MethodId} {args : Array Value} {below : List Frame} {meth : Method} {c : Code} {D : zk_G} {g : zk_M} {b0 nL cells slots mc ms : Nat} {Q : State → Prop} {P : zk_H} {pc : Nat} {L : List (Nat × Value)} {st rest : List Value} {cc : ByteArray} {nm : String} {ret : Option FieldType} {px : Nat → zk_H → Prop}
/-- the call of setup in load: the Fault is caught at 27 -/
theorem zv_cvH (X : zk_X p s m args meth c D g b0 cc nL "LandFolio" nm ret) (hH : c.exceptionTable.toList.map (fun h => (h.startPc, h.endPc, h.handlerPc, h.catchType)) = hh_X0_load) {post : zk_H → Prop} (hr : ∃ av : Array Value, zxRun p l e R s m args below meth c D b0 nL cells slots mc ms P 10 L st rest (va_Qv post (zk_B D b0) (zk_A b0) av) (zx_X px (zx_B D b0) (zk_A b0))) (kx : ∀ (q : Nat) (P : zk_H), px q P → zV p l e R s m args below meth c D b0 nL (cells + mc) (slots + ms) Q P 27 L [va_rf (some q)]) (kk : ∀ (P : zk_H), post P → zV p l e R s m args below meth c D b0 nL (cells + mc) (slots + ms) Q P (10 + 3) L rest) : zV p l e R s m args below meth c D b0 nL cells slots Q P 10 L st := fun H locs ls h1 h2 h3 => zx_callv (hr.choose_spec H locs ls h1 h2 h3) h2 (fun q _ h => h) (fun q h => h) (fun q _ h => h)
  (fun E ce q9 u t H1 locs1 ht hvm hp hB hz hk hS hce hcv hcl => by
    obtain ⟨rfl, hB⟩ := hB
    cases hL : c.exceptionTable.toList with
    | nil => rw [hL] at hH; cases hH
    | cons x suf =>
      rw [hL] at hH
      simp only [List.map_cons, List.cons.injEq, Prod.mk.injEq] at hH
      obtain ⟨⟨e1, e2, e3, e4⟩, -⟩ := hH
      refine zx_catch X.2.2.2.1 [] x suf (by rw [hL]; rfl) (fun z hz => absurd hz List.not_mem_nil) (by simp [covers, e1, e2]) (by rw [e4]; decide) (by rw [e4]; exact X.w q727) (va_Nw.use rfl (X.nw (zk_nwm q1044 rfl))) hce hcv hcl ?_
      rw [e3]
      exact kx q9 u hp H1 locs1 ls (zk_back hB ht hvm) hS h3)
  (fun u t H1 locs1 ht hvm hp hB hz hk hS => kk u hp H1 locs1 ls (zk_back hB ht hvm) hS h3)
end ZV10
