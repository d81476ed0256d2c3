/-! OUR KIT 6: names of values; calls that leave the heap; calls through an object of one of several classes -/
def zt {α : Type} (x : α) (K : α → Prop) : Prop := K x
theorem zt_e {α : Type} {x : α} {K : α → Prop} (h : zt x K) : ∃ v, x = v ∧ K v := ⟨x, rfl, h⟩
theorem zk_l1 {Q : Nat → Prop} {a : Nat} (h : Q a) : ∀ ci ∈ [a], Q ci := fun ci hc => by rw [List.mem_singleton.mp hc]; exact h
theorem zk_l2 {Q : Nat → Prop} {a b : Nat} (h : Q a) (h2 : Q b) : ∀ ci ∈ [a, b], Q ci := fun ci hc => by
  rcases List.mem_cons.mp hc with e | e
  · rw [e]; exact h
  · rw [List.mem_singleton.mp e]; exact h2
theorem zk_l0 {Q : Nat → Prop} : ∀ ci ∈ ([] : List Nat), Q ci := fun ci hc => absurd hc List.not_mem_nil
theorem zk_rs : ∀ {rest : List Value}, rest.length ≤ 4 → (rest.map fun v => v.category).sum ≤ 8
  | [], _ => Nat.zero_le _
  | [a], _ => by rcases lv_cat a with h | h <;> simp [h]
  | [a, b], _ => by rcases lv_cat a with h | h <;> rcases lv_cat b with h2 | h2 <;> simp [h, h2]
  | [a, b, c], _ => by rcases lv_cat a with h | h <;> rcases lv_cat b with h2 | h2 <;> rcases lv_cat c with h3 | h3 <;> simp [h, h2, h3]
  | [a, b, c, d], _ => by rcases lv_cat a with h | h <;> rcases lv_cat b with h2 | h2 <;> rcases lv_cat c with h3 | h3 <;> rcases lv_cat d with h4 | h4 <;> simp [h, h2, h3, h4]
  | _ :: _ :: _ :: _ :: _ :: _, h => absurd h (by simp)
theorem zk_ic (x : Int32) : (Value.int x).category = 1 := rfl
theorem zk_jc (x : Int64) : (Value.long x).category = 2 := rfl
theorem zk_tn {x k : Int32} {n : Int} (hk : k.toInt = n) (h : ¬ x = k) : x.toInt ≠ n := fun q => h (Int32.toInt_inj.mp (q.trans hk.symm))
theorem zk_oi : Cond.instanceMethod Lib.objectInit ∈ lw_all := q146
theorem zk_oc : Cond.code Lib.objectInit ⟨#[0xb1]⟩ 1 none ∈ lw_all := q147
theorem qi_X4_unsf : Cond.initialized yX4_unsf.cls ∈ lw_all := by
  rw [show yX4_unsf.cls = "LandFolioModel" from by decide +kernel]
  exact q114
section ZV6
variable {p : Program} {l : Launch} {e : Env} {R : Room} {s : State} {m : MethodId} {args : Array Value} {below : List Frame} {meth : Method} {c : Code} {D : zk_G} {g : zk_M} {b0 nL cells slots mc ms : Nat} {Q : State → Prop} {P : zk_H} {pc : Nat} {L : List (Nat × Value)} {st rest : List Value} {cc : ByteArray} {own nm : String} {ret : Option FieldType}
theorem zk_X.hts (X : zk_X p s m args meth c D g b0 cc nL own nm ret) : ∀ w ∈ lw_all, w.before args s = true := X.2.2.2.2.1
theorem zk_at0 {L' : List (Nat × Value)} (h : L = L') (k : zV p l e R s m args below meth c D b0 nL cells slots Q P pc L' st) : zV p l e R s m args below meth c D b0 nL cells slots Q P pc L st := h ▸ k
theorem zv_top_i {x : Int32} {K : Int32 → Prop} (h : zt x K) (kk : ∀ v : Int32, K v → zV p l e R s m args below meth c D b0 nL cells slots Q P pc L (.int v :: rest)) : zV p l e R s m args below meth c D b0 nL cells slots Q P pc L (.int x :: rest) := kk x h
theorem zv_top_l {x : Int64} {K : Int64 → Prop} (h : zt x K) (kk : ∀ v : Int64, K v → zV p l e R s m args below meth c D b0 nL cells slots Q P pc L (.long v :: rest)) : zV p l e R s m args below meth c D b0 nL cells slots Q P pc L (.long x :: rest) := kk x h
theorem zv_top_d {x : UInt64} {K : UInt64 → Prop} (h : zt x K) (kk : ∀ v : UInt64, K v → zV p l e R s m args below meth c D b0 nL cells slots Q P pc L (.double v :: rest)) : zV p l e R s m args below meth c D b0 nL cells slots Q P pc L (.double x :: rest) := kk x h
theorem zv_top_a {x : Option Nat} {K : Option Nat → Prop} (h : zt x K) (kk : ∀ v : Option Nat, K v → zV p l e R s m args below meth c D b0 nL cells slots Q P pc L (va_rf v :: rest)) : zV p l e R s m args below meth c D b0 nL cells slots Q P pc L (va_rf x :: rest) := kk x h
theorem zv_objInit (X : zk_X p s m args meth c D g b0 cc nL own nm ret) {a index : Nat} (ql : Cond.methodLink own index Lib.objectInit ∈ lw_all) (d : decode cc pc = .ok (.invokespecial index, 3)) (hf : 1 ≤ R.frames) (hl : (rest.map fun v => v.category).sum ≤ 8) (hl2 : 20 ≤ R.locals) (k : zV p l e R s m args below meth c D b0 nL cells slots Q P (pc + 3) L rest) : zV p l e R s m args below meth c D b0 nL cells slots Q P pc L (va_rf (some a) :: rest) := fun H locs ls h1 h2 h3 => by
  have h4 := lv_room (m := m) (pc := pc) (ls := ls) (rest := rest) hl
  have h5 : (F0 m pc ls (.ref a :: rest)).monitorRoom = (F0 m pc ls rest).monitorRoom := rfl
  exact W.objInit (g := F0 m pc ls (.ref a :: rest)) X.1 X.2.1 X.2.2.2.1 (X.w ql) (X.w zk_oi) (X.w zk_oc) rfl (by rw [X.2.2.1]; exact h3.1) rfl d hf (by omega) (k H locs ls h1 h2 h3)
/-! calls of methods that leave the heap -/
theorem zv_ciR {post : Int32 → Prop} (hr : ∃ av : Array Value, zRun p l e R s m args below meth c D b0 nL cells slots mc ms P pc L st rest (va_Qi (fun r u => post r ∧ u = P) (zk_B D b0) (zk_A b0) av)) (kk : ∀ (x : Int32), post x → zV p l e R s m args below meth c D b0 nL (cells + mc) (slots + ms) Q P (pc + 3) L (.int x :: rest)) : zV p l e R s m args below meth c D b0 nL cells slots Q P pc L st := zv_ci hr (fun x P2 h => by obtain ⟨h, rfl⟩ := h; exact kk x h)
theorem zv_cfR {post : UInt32 → Prop} (hr : ∃ av : Array Value, zRun p l e R s m args below meth c D b0 nL cells slots mc ms P pc L st rest (va_Qf (fun r u => post r ∧ u = P) (zk_B D b0) (zk_A b0) av)) (kk : ∀ (x : UInt32), post x → zV p l e R s m args below meth c D b0 nL (cells + mc) (slots + ms) Q P (pc + 3) L (.float x :: rest)) : zV p l e R s m args below meth c D b0 nL cells slots Q P pc L st := zv_cf hr (fun x P2 h => by obtain ⟨h, rfl⟩ := h; exact kk x h)
theorem zv_cdR {post : UInt64 → Prop} (hr : ∃ av : Array Value, zRun p l e R s m args below meth c D b0 nL cells slots mc ms P pc L st rest (va_Qd (fun r u => post r ∧ u = P) (zk_B D b0) (zk_A b0) av)) (kk : ∀ (x : UInt64), post x → zV p l e R s m args below meth c D b0 nL (cells + mc) (slots + ms) Q P (pc + 3) L (.double x :: rest)) : zV p l e R s m args below meth c D b0 nL cells slots Q P pc L st := zv_cd hr (fun x P2 h => by obtain ⟨h, rfl⟩ := h; exact kk x h)
theorem zv_cqR {post : Option Nat → Prop} (hr : ∃ av : Array Value, zRun p l e R s m args below meth c D b0 nL cells slots mc ms P pc L st rest (va_Qq (fun r u => post r ∧ u = P) (zk_B D b0) (zk_A b0) av)) (kk : ∀ (x : Option Nat), post x → zV p l e R s m args below meth c D b0 nL (cells + mc) (slots + ms) Q P (pc + 3) L (va_rf x :: rest)) : zV p l e R s m args below meth c D b0 nL cells slots Q P pc L st := zv_cq hr (fun x P2 h => by obtain ⟨h, rfl⟩ := h; exact kk x h)
theorem zv_cvR {post : Prop} (hr : ∃ av : Array Value, zRun p l e R s m args below meth c D b0 nL cells slots mc ms P pc L st rest (va_Qv (fun u => post ∧ u = P) (zk_B D b0) (zk_A b0) av)) (kk : post → zV p l e R s m args below meth c D b0 nL (cells + mc) (slots + ms) Q P (pc + 3) L rest) : zV p l e R s m args below meth c D b0 nL cells slots Q P pc L st := zv_cv hr (fun P2 h => by obtain ⟨h, rfl⟩ := h; exact kk h)
theorem zv_ciR5 {post : Int32 → Prop} (hr : ∃ av : Array Value, zRun5 p l e R s m args below meth c D b0 nL cells slots mc ms P pc L st rest (va_Qi (fun r u => post r ∧ u = P) (zk_B D b0) (zk_A b0) av)) (kk : ∀ (x : Int32), post x → zV p l e R s m args below meth c D b0 nL (cells + mc) (slots + ms) Q P (pc + 5) L (.int x :: rest)) : zV p l e R s m args below meth c D b0 nL cells slots Q P pc L st := zv_ci5 hr (fun x P2 h => by obtain ⟨h, rfl⟩ := h; exact kk x h)
/-! calls through an object -/
theorem zr_Vl (X : zk_X p s m args meth c D g b0 cc nL own nm ret) {y : MethodName} {bytes : ByteArray} {maxL index n : Nat} {r0 : Option Nat} {cs : List Nat} {K : Nat → Prop} {rt : Option FieldType} {rm : Room} {As : List Value} {Qc : Array Value → State → Outcome → State → Prop} (h : zo P r0 cs K) (hM : ∀ a, K a → Met l y (ws_ y bytes maxL rt) rm (va_Pc (.ref a :: As) (zk_pre D g b0 P)) Qc mc ms (zk_A b0)) (hc : ∀ ci ∈ cs, ∃ r, zk_cl[ci]? = some r ∧ CallW R s args own r.1 index y bytes maxL rt (ws_ y bytes maxL rt) rm mc ms n) (hn : As.length = n) (hst : st = As.reverse ++ va_rf r0 :: rest) (hW : (rest.map fun v => v.category).sum ≤ 8) (d : decode cc pc = .ok (.invokevirtual index, 3)) (hf : cells + mc ≤ R.cells ∧ slots + ms ≤ R.slots) : ∃ av : Array Value, zRun p l e R s m args below meth c D b0 nL cells slots mc ms P pc L st rest (Qc av) := by
  obtain ⟨a, t, ci, fs, rfl, ha, hci, hK⟩ := h
  obtain ⟨r, hr, cw⟩ := hc ci hci
  exact zr_V X (hM a hK) ha hr cw hn hst hW d hf
theorem zr_Ul (X : zk_X p s m args meth c D g b0 cc nL own nm ret) {x y : MethodName} {bytes : ByteArray} {maxL index n : Nat} {r0 : Option Nat} {cs : List Nat} {K : Nat → Prop} {rt : Option FieldType} {rm : Room} {As : List Value} {Qc : Array Value → State → Outcome → State → Prop} (h : zo P r0 cs K) (hM : ∀ a, K a → Met l y (ws_ y bytes maxL rt) rm (va_Pc (.ref a :: As) (zk_pre D g b0 P)) Qc mc ms (zk_A b0)) (hc : ∀ ci ∈ cs, ∃ r, zk_cl[ci]? = some r ∧ ∃ owner : String, va_CU R s args own r.1 owner index x y bytes maxL rt (ws_ y bytes maxL rt) rm mc ms n) (hn : As.length = n) (hst : st = As.reverse ++ va_rf r0 :: rest) (hW : (rest.map fun v => v.category).sum ≤ 8) (d : decode cc pc = .ok (.invokevirtual index, 3)) (hf : cells + mc ≤ R.cells ∧ slots + ms ≤ R.slots) : ∃ av : Array Value, zRun p l e R s m args below meth c D b0 nL cells slots mc ms P pc L st rest (Qc av) := by
  obtain ⟨a, t, ci, fs, rfl, ha, hci, hK⟩ := h
  obtain ⟨r, hr, ow, cw⟩ := hc ci hci
  exact zr_U X (hM a hK) ha hr cw hn hst hW d hf
theorem zr_Fl (X : zk_X p s m args meth c D g b0 cc nL own nm ret) {x y : MethodName} {bytes : ByteArray} {maxL index count n : Nat} {r0 : Option Nat} {cs : List Nat} {K : Nat → Prop} {rt : Option FieldType} {rm : Room} {As : List Value} {Qc : Array Value → State → Outcome → State → Prop} (h : zo P r0 cs K) (hM : ∀ a, K a → Met l y (ws_ y bytes maxL rt) rm (va_Pc (.ref a :: As) (zk_pre D g b0 P)) Qc mc ms (zk_A b0)) (hc : ∀ ci ∈ cs, ∃ r, zk_cl[ci]? = some r ∧ va_CI R s args own r.1 index x y bytes maxL rt (ws_ y bytes maxL rt) rm mc ms n) (hn : As.length = n) (hst : st = As.reverse ++ va_rf r0 :: rest) (hW : (rest.map fun v => v.category).sum ≤ 8) (d : decode cc pc = .ok (.invokeinterface index count, 5)) (hf : cells + mc ≤ R.cells ∧ slots + ms ≤ R.slots) : ∃ av : Array Value, zRun5 p l e R s m args below meth c D b0 nL cells slots mc ms P pc L st rest (Qc av) := by
  obtain ⟨a, t, ci, fs, rfl, ha, hci, hK⟩ := h
  obtain ⟨r, hr, cw⟩ := hc ci hci
  exact zr_F X (hM a hK) ha hr cw hn hst hW d hf
/-! more rows -/
theorem zv_ldcw (X : zk_X p s m args meth c D g b0 cc nL own nm ret) {index : Nat} {v : Int32} (q : Cond.constant own index v ∈ lw_all) (d : decode cc pc = .ok (.ldc_w index, 3)) (k : zV p l e R s m args below meth c D b0 nL cells slots Q P (pc + 3) L (.int v :: rest)) : zV p l e R s m args below meth c D b0 nL cells slots Q P pc L rest := fun H locs ls h1 h2 h3 => lv_ldcw X.1 X.2.1 X.2.2.2.1 (X.w q) d (k H locs ls h1 h2 h3)
theorem zk_ldcwf {T : State} {H : Heap} {locs : List Loc} (X : Stand p l e R s m args below meth c T locs cells slots) (hexec : p.tables.exec = Jvm.exec) {own : String} {index : Nat} {v : UInt32} (hown : s.vm.findClass own = some m.cls) (hconst : (Cond.constantFloat own index v).before args s = true) {g : JFrame} (hg : g.method = m) (hdg : decode c.code g.pc = .ok (.ldc_w index, 3)) :
    ∀ target, Steps p.tables e below (T.setTop { g with pc := g.pc + 3, stack := .float v :: g.stack }) target → Steps p.tables e below (T.setTop g) target := by
  obtain ⟨k, cf, hk, hcf, hcp⟩ := Cond.constantFloat_spec hown hconst
  obtain ⟨k', hk', he⟩ := X.warmed.alike.2.2 _ _ hk
  intro target hrest
  subst hg
  jvm_step X.here [hexec, hdg, ldc_w.wp_float (s := T) (f := g) X.here.top hk' (by rw [he]; exact hcf) hcp]
  exact hrest
theorem zv_ldcwf (X : zk_X p s m args meth c D g b0 cc nL own nm ret) {index : Nat} {v : UInt32} (q : Cond.constantFloat own index v ∈ lw_all) (d : decode cc pc = .ok (.ldc_w index, 3)) (k : zV p l e R s m args below meth c D b0 nL cells slots Q P (pc + 3) L (.float v :: rest)) : zV p l e R s m args below meth c D b0 nL cells slots Q P pc L rest := fun H locs ls h1 h2 h3 => by
  intro T hT S
  obtain ⟨t, a, b⟩ := k H locs ls h1 h2 h3 T hT S
  exact ⟨t, zk_ldcwf (H := H) S X.1 X.2.2.2.1 (X.w q) (g := F0 m pc ls rest) rfl (by rw [X.2.1]; exact d) t a, b⟩
/-- a switch by key: none of the keys -/
theorem zk_look : ∀ {ps : List (Int × Int)} {dflt k : Int}, (∀ q ∈ ps, q.1 ≠ k) → Op.lookupswitch.offset ps dflt k = dflt
  | [], _, _, _ => rfl
  | (a, o) :: r, dflt, k, h => by
    rw [Op.lookupswitch.offset_cons, if_neg (h (a, o) List.mem_cons_self)]
    exact zk_look (fun q hq => h q (List.mem_cons_of_mem _ hq))
end ZV6
