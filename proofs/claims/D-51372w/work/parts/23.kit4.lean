/-! OUR KIT 4: fields, arrays, new objects -/
/-- a field's link: class number ci, place k -/
def zk_fo (own : String) (index k ci : Nat) : Prop := ∃ (C : String) (T : u_T) (N : Nat) (ref : String), zk_cl[ci]? = some (C, T, N) ∧ (∀ w ∈ u_ws C T N, w ∈ lw_all) ∧ k < N ∧ (Cond.fieldLink own index ref (T k).2.1 (T k).2.2.1 ∈ lw_all ∨ ∃ host, Cond.fieldLinkNest own index ref (T k).2.1 (T k).2.2.1 host ∈ zk_nw) ∧ (ref = (T k).1 ∨ Cond.sameField ref (T k).1 (T k).2.1 (T k).2.2.1 ∈ lw_all)
def zk_fp (own : String) (index k ci : Nat) (ty : FieldType) (fin : Bool) : Prop := ∃ (C : String) (T : u_T) (N : Nat) (ref : String) (ty0 : Nat → FieldType), zk_cl[ci]? = some (C, T, N) ∧ (∀ w ∈ u_ws C T N, w ∈ lw_all) ∧ k < N ∧ (Cond.fieldLink own index ref (T k).2.1 (T k).2.2.1 ∈ lw_all ∨ (fin = false ∧ ∃ host, Cond.fieldLinkNest own index ref (T k).2.1 (T k).2.2.1 host ∈ zk_nw)) ∧ (ref = (T k).1 ∨ Cond.sameField ref (T k).1 (T k).2.1 (T k).2.2.1 ∈ lw_all) ∧ (∀ j, j < N → parseFieldDescriptor (T j).2.2.1 = some (ty0 j)) ∧ (∀ a, a < N → ∀ b, b < N → a ≠ b → (T a).2.1 ≠ (T b).2.1) ∧ parseFieldDescriptor (T k).2.2.1 = some ty ∧ (T k).2.2.2 = fin ∧ (fin = true → (T k).1 = own)
/-- what a method reads and writes -/
def zf_i (P : zk_H) (r : Option Nat) (cs : List Nat) (k : Nat) (K : Int32 → Prop) : Prop := ∃ (a : Nat) (t : Bool) (ci : Nat) (fs : List Value) (x : Int32), r = some a ∧ P a = some (t, .inr (ci, fs)) ∧ ci ∈ cs ∧ fs[k]? = some (.int x) ∧ K x
def zf_r (P : zk_H) (r : Option Nat) (cs : List Nat) (k : Nat) (K : Option Nat → Prop) : Prop := ∃ (a : Nat) (t : Bool) (ci : Nat) (fs : List Value) (x : Option Nat), r = some a ∧ P a = some (t, .inr (ci, fs)) ∧ ci ∈ cs ∧ fs[k]? = some (va_rf x) ∧ K x
def zp_v (P : zk_H) (r : Option Nat) (cs : List Nat) (k : Nat) (v : Value) (K : zk_H → Prop) : Prop := ∃ (a : Nat) (ci : Nat) (fs : List Value), r = some a ∧ P a = some (true, .inr (ci, fs)) ∧ ci ∈ cs ∧ k < fs.length ∧ K (zk_u P a (.inr (ci, fs.set k v)))
/-- a number that fits a narrow type -/
def zk_nr (ty : FieldType) (x : Int32) : Prop := narrow ty (.int x) = .int x ∧ fits ty (.int x) = true
/-- an object of a class in the list, its address -/
def zo (P : zk_H) (r : Option Nat) (cs : List Nat) (K : Nat → Prop) : Prop := ∃ (a : Nat) (t : Bool) (ci : Nat) (fs : List Value), r = some a ∧ P a = some (t, .inr (ci, fs)) ∧ ci ∈ cs ∧ K a
def zn_o (P : zk_H) (ci : Nat) (fs : List Value) (K : Nat → zk_H → Prop) : Prop := ∀ q : Nat, P q = none → K q (zk_u P q (.inr (ci, fs)))
def zn_a (P : zk_H) (ty : FieldType) (z : (Nat → Int32) ⊕ (Nat → Int64) ⊕ (Nat → UInt32) ⊕ (Nat → UInt64) ⊕ (Nat → Option Nat)) (n : Int32) (cap : Nat) (K : Nat → zk_H → Prop) : Prop := ¬ n < 0 ∧ n.toNatClampNeg ≤ cap ∧ ∀ q : Nat, P q = none → K q (zk_u P q (.inl (ty, n.toNatClampNeg, z)))
def za_n (P : zk_H) (r : Option Nat) (K : Int32 → Prop) : Prop := ∃ (a : Nat) (t : Bool) (q : FieldType × vp_A), r = some a ∧ P a = some (t, .inl q) ∧ K (nI q.2.1)
def za_i (P : zk_H) (r : Option Nat) (ty : FieldType) (i : Int32) (K : Int32 → Prop) : Prop := ∃ (a : Nat) (t : Bool) (n : Nat) (f : Nat → Int32), r = some a ∧ P a = some (t, .inl (ty, n, .inl f)) ∧ vp_in i n ∧ K (f i.toNatClampNeg)
def za_l (P : zk_H) (r : Option Nat) (i : Int32) (K : Int64 → Prop) : Prop := ∃ (a : Nat) (t : Bool) (n : Nat) (f : Nat → Int64), r = some a ∧ P a = some (t, .inl (.long, n, .inr (.inl f))) ∧ vp_in i n ∧ K (f i.toNatClampNeg)
def za_r (P : zk_H) (r : Option Nat) (i : Int32) (K : Option Nat → Prop) : Prop := ∃ (a : Nat) (t : Bool) (C : String) (n : Nat) (f : Nat → Option Nat), r = some a ∧ P a = some (t, .inl (.object C, n, .inr (.inr (.inr (.inr f))))) ∧ vp_in i n ∧ K (f i.toNatClampNeg)
def zs_i (P : zk_H) (r : Option Nat) (ty : FieldType) (i x : Int32) (K : zk_H → Prop) : Prop := ∃ (a : Nat) (n : Nat) (f : Nat → Int32), r = some a ∧ P a = some (true, .inl (ty, n, .inl f)) ∧ vp_in i n ∧ K (zk_u P a (.inl (ty, n, .inl (upd f i.toNatClampNeg (vp_nar ty x)))))
def zs_l (P : zk_H) (r : Option Nat) (i : Int32) (x : Int64) (K : zk_H → Prop) : Prop := ∃ (a : Nat) (n : Nat) (f : Nat → Int64), r = some a ∧ P a = some (true, .inl (.long, n, .inr (.inl f))) ∧ vp_in i n ∧ K (zk_u P a (.inl (.long, n, .inr (.inl (vp_updL f i.toNatClampNeg x)))))
/-- classes that an array of the type may hold -/
def zk_may (C : String) : List Nat := if C = "java/lang/Object" then [1, 2, 3, 7, 8, 9, 15] else if C = "LandFolio$Folio" then [1] else []
def zs_r (P : zk_H) (r : Option Nat) (i : Int32) (x : Option Nat) (K : zk_H → Prop) : Prop := ∃ (a : Nat) (C : String) (n : Nat) (f : Nat → Option Nat), r = some a ∧ P a = some (true, .inl (.object C, n, .inr (.inr (.inr (.inr f))))) ∧ vp_in i n ∧ (x = none ∨ ∃ (b : Nat) (t : Bool) (ci : Nat) (fs : List Value), x = some b ∧ P b = some (t, .inr (ci, fs)) ∧ ci ∈ zk_may C) ∧ K (zk_u P a (.inl (.object C, n, .inr (.inr (.inr (.inr (va_up f i.toNatClampNeg x)))))))
/-- checkcast, instanceof -/
def zc_c (P : zk_H) (r : Option Nat) (cs : List Nat) (K : Prop) : Prop := (r = none ∨ ∃ (a : Nat) (t : Bool) (ci : Nat) (fs : List Value), r = some a ∧ P a = some (t, .inr (ci, fs)) ∧ ci ∈ cs) ∧ K
def zc_i (P : zk_H) (r : Option Nat) (ys ns : List Nat) (K : Int32 → Prop) : Prop := (r = none ∧ K 0) ∨ ∃ (a : Nat) (t : Bool) (ci : Nat) (fs : List Value), r = some a ∧ P a = some (t, .inr (ci, fs)) ∧ ((ci ∈ ys ∧ K 1) ∨ (ci ∈ ns ∧ K 0))
section ZV4
variable {p : Program} {l : Launch} {e : Env} {R : Room} {s : State} {m : MethodId} {args : Array Value} {below : List Frame} {meth : Method} {c : Code} {D : zk_G} {g : zk_M} {b0 nL cells slots : Nat} {Q : State → Prop} {P : zk_H} {pc : Nat} {L : List (Nat × Value)} {rest : List Value} {cc : ByteArray} {own nm : String} {ret : Option FieldType}
theorem zk_X.K (X : zk_X p s m args meth c D g b0 cc nL own nm ret) : zk_K D s := X.2.2.2.2.2.1.1.1
theorem zk_X.w (X : zk_X p s m args meth c D g b0 cc nL own nm ret) {w : Cond} (h : w ∈ lw_all) : w.before args s = true := X.2.2.2.2.1 w h
theorem zk_X.nw (X : zk_X p s m args meth c D g b0 cc nL own nm ret) {w : Cond} (h : w ∈ zk_nw) : va_Nw w s := X.2.2.2.2.2.1.1.2.1 w h
theorem zk_same (X : zk_X p s m args meth c D g b0 cc nL own nm ret) {ref o n d : String} (h : ref = o ∨ Cond.sameField ref o n d ∈ lw_all) (x : ClassId × Class × Nat × Field) (hx : s.fieldFound? o n d = some x) : s.fieldFound? ref n d = some x := by
  rcases h with h | h
  · rw [h]; exact hx
  · exact u_same (X.w h) x hx
theorem zv_getv (X : zk_X p s m args meth c D g b0 cc nL own nm ret) {a : Nat} {t : Bool} {ci index k : Nat} {fs : List Value} {v : Value} (hF : zk_fo own index k ci) (ha : P a = some (t, .inr (ci, fs))) (hv : fs[k]? = some v) (d : decode cc pc = .ok (.getfield index, 3)) (kk : zV p l e R s m args below meth c D b0 nL cells slots Q P (pc + 3) L (v :: rest)) : zV p l e R s m args below meth c D b0 nL cells slots Q P pc L (.ref a :: rest) := fun H locs ls h1 h2 h3 => by
  obtain ⟨C, T, N, ref, hc, hin, hk, hl, hs⟩ := hF
  obtain ⟨r, cell, g1, g2, g3, g4, g5, g6⟩ := zk_at.obj X.K (h1.2 a t _ ha)
  have hr : r = (C, T, N) := Option.some.inj (g1.symm.trans hc)
  subst hr
  obtain ⟨hS, hfc, kC, hkC, hkind⟩ := X.K.1.1 ci _ hc
  obtain ⟨cf, kf, fi, f, hi, hsl⟩ := hS k hk
  have hst := (u_facts hfc hkC (u_lays X.2.2.2.2.1 hin hk) hi).1
  have hslot : cell.slots[f.slot]? = some v := by
    rw [hsl, g6 k hk]
    simp [vp_V, hv]
  rcases hl with hl | ⟨host, hl⟩
  · exact W.getf X.1 X.2.1 X.2.2.2.1 (X.w hl) (zk_same X hs _ hi) hst g2 g3 hslot rfl rfl d (kk H locs ls h1 h2 h3)
  · exact va_Wgetf X.1 X.2.1 X.2.2.2.1 (va_Nw.use rfl (X.nw hl)) (zk_same X hs _ hi) hst g2 g3 hslot rfl rfl d (kk H locs ls h1 h2 h3)
theorem zv_getf_i (X : zk_X p s m args meth c D g b0 cc nL own nm ret) {r : Option Nat} {cs : List Nat} {index k : Nat} {K : Int32 → Prop} (hF : ∀ ci ∈ cs, zk_fo own index k ci) (d : decode cc pc = .ok (.getfield index, 3)) (h : zf_i P r cs k K) (kk : ∀ x : Int32, K x → zV p l e R s m args below meth c D b0 nL cells slots Q P (pc + 3) L (.int x :: rest)) : zV p l e R s m args below meth c D b0 nL cells slots Q P pc L (va_rf r :: rest) := by
  obtain ⟨a, t, ci, fs, x, rfl, ha, hc, hv, hK⟩ := h
  exact zv_getv X (hF ci hc) ha hv d (kk x hK)
theorem zv_getf_r (X : zk_X p s m args meth c D g b0 cc nL own nm ret) {r : Option Nat} {cs : List Nat} {index k : Nat} {K : Option Nat → Prop} (hF : ∀ ci ∈ cs, zk_fo own index k ci) (d : decode cc pc = .ok (.getfield index, 3)) (h : zf_r P r cs k K) (kk : ∀ x : Option Nat, K x → zV p l e R s m args below meth c D b0 nL cells slots Q P (pc + 3) L (va_rf x :: rest)) : zV p l e R s m args below meth c D b0 nL cells slots Q P pc L (va_rf r :: rest) := by
  obtain ⟨a, t, ci, fs, x, rfl, ha, hc, hv, hK⟩ := h
  exact zv_getv X (hF ci hc) ha hv d (kk x hK)
theorem zk_put {a ci : Nat} {fs : List Value} {v : Value} {k : Nat} {H H1 : Heap} {locs : List Loc} {x : Nat} (hP : zk_R D b0 P s H) (ha : P a = some (true, .inr (ci, fs))) (hx : va_at D.1 zk_cl (a, .inr (ci, fs.set k v)) H1) (z : H1.size = H.size) (oq : ∀ q : Nat, q ≠ a → H1[q]? = H[q]?) (hS : va_S (zk_A b0) s.heap H locs) : zk_R D b0 (zk_u P a (.inr (ci, fs.set k v))) s H1 ∧ va_S (zk_A b0) s.heap H1 (locs ++ [⟨a, x⟩]) := by
  have h := hP.2 a true _ ha
  exact ⟨hP.put ⟨hx, h.2.1, trivial⟩ z oq, hS.put z oq h.2.1⟩
theorem zv_putv (X : zk_X p s m args meth c D g b0 cc nL own nm ret) {a ci index k : Nat} {fs : List Value} {v : Value} {ty : FieldType} {fin : Bool} (hF : zk_fp own index k ci ty fin) (hfn : fin = true → nm = "<init>") (ha : P a = some (true, .inr (ci, fs))) (hn : narrow ty v = v) (hfit : fits ty v = true) (hl : k < fs.length) (d : decode cc pc = .ok (.putfield index, 3)) (kk : zV p l e R s m args below meth c D b0 nL cells slots Q (zk_u P a (.inr (ci, fs.set k v))) (pc + 3) L rest) : zV p l e R s m args below meth c D b0 nL cells slots Q P pc L (v :: .ref a :: rest) := fun H locs ls h1 h2 h3 => by
  obtain ⟨C, T, N, ref, ty0, hc, hin, hk, hlk, hs, hty, hnm, hd, hfin, hown2⟩ := hF
  have hap := va_apart (own := own) X.2.2.2.2.1 hin ty0 hty hnm X.K.1 hc
  obtain ⟨⟨r, g1, cell, q1, q2, q3, q4⟩, hb, -⟩ := h1.2 a true _ ha
  have hr : r = (C, T, N) := Option.some.inj (g1.symm.trans hc)
  subst hr
  obtain ⟨hS, hfc, kC, hkC, hkind⟩ := X.K.1.1 ci _ hc
  obtain ⟨cf, kf, fi, f, hi, hsl⟩ := hS k hk
  have hlay := X.w (hin _ (u_in_lay hk))
  unfold u_lay at hlay
  have hst := (u_facts hfc hkC (u_lays X.2.2.2.2.1 hin hk) hi).1
  have go : ∀ H' : Heap, H'[a]? = some (cell.setSlot f.slot v) → H'.size = H.size → (∀ q, q ≠ a → H'[q]? = H[q]?) → W p l e R s m args below meth c H' (locs ++ [⟨a, f.slot⟩]) cells slots Q (F0 m (pc + 3) ls rest) := by
    intro H' e1 e2 e3
    rw [hsl] at e1
    have hx : va_at D.1 zk_cl (a, .inr (ci, fs.set k v)) H' := ⟨_, hc, t_OB.to (V := updV (vp_V fs) k v) ⟨_, e1, q2, q3, t_set q4 hap hk v⟩ (fun j _ => vp_updV_set hl v j)⟩
    obtain ⟨r1, r2⟩ := zk_put (x := f.slot) h1 ha hx e2 e3 h2
    exact kk H' _ ls r1 r2 h3
  cases fin with
  | true =>
    rw [if_pos hfin] at hlay
    have hcf : m.cls = cf := by
      obtain ⟨_, _, c', _, _, _, -, -, hf', -, -, -, hown3, -⟩ := Cond.laysFinal_spec hlay
      have e1 : c' = cf := by have := hi.symm.trans hf'; simp at this; exact this.1.symm
      rw [hown2 rfl] at hown3
      rw [← e1]; exact Option.some.inj (X.2.2.2.1.symm.trans hown3)
    have h6 := u_fits hfc hkC hkind (Or.inr hlay) hi hd hn hfit
    rcases hlk with hlk | ⟨hlk, -⟩
    · exact W.putFinK X.1 X.2.1 X.2.2.2.1 (X.w hlk) (zk_same X hs _ hi) hst hcf (by rw [X.2.2.2.2.2.2.2.2]; exact hfn rfl) (by rw [q2]; exact h6) q1 q3 (by rw [hsl]; exact k2_hasslot (q4 k hk)) rfl rfl d go
    · cases hlk
  | false =>
    rw [if_neg (by rw [hfin]; decide)] at hlay
    have h6 := u_store hfc hkC hkind hlay hi hd hn hfit
    rcases hlk with hlk | ⟨-, host, hlk⟩
    · exact W.putK X.1 X.2.1 (f := f) ⟨X.2.2.2.1, X.w hlk, ⟨_, _, _, zk_same X hs _ hi⟩, hst⟩ (by rw [q2]; exact h6) q1 q3 (by rw [hsl]; exact k2_hasslot (q4 k hk)) rfl rfl d go
    · exact va_WputK X.1 X.2.1 (f := f) X.2.2.2.1 (va_Nw.use rfl (X.nw hlk)) (zk_same X hs _ hi) hst (by rw [q2]; exact h6) q1 q3 (by rw [hsl]; exact k2_hasslot (q4 k hk)) rfl rfl d go
theorem zv_put_i (X : zk_X p s m args meth c D g b0 cc nL own nm ret) {r : Option Nat} {cs : List Nat} {index k : Nat} {x : Int32} {fin : Bool} {K : zk_H → Prop} (hF : ∀ ci ∈ cs, zk_fp own index k ci .int fin) (hfn : fin = true → nm = "<init>") (d : decode cc pc = .ok (.putfield index, 3)) (h : zp_v P r cs k (.int x) K) (kk : ∀ P : zk_H, K P → zV p l e R s m args below meth c D b0 nL cells slots Q P (pc + 3) L rest) : zV p l e R s m args below meth c D b0 nL cells slots Q P pc L (.int x :: va_rf r :: rest) := by
  obtain ⟨a, ci, fs, rfl, ha, hc, hv, hK⟩ := h
  exact zv_putv X (hF ci hc) hfn ha rfl rfl hv d (kk _ hK)
theorem zv_put_n (X : zk_X p s m args meth c D g b0 cc nL own nm ret) {r : Option Nat} {cs : List Nat} {index k : Nat} {x : Int32} {fin : Bool} {ty : FieldType} {K : zk_H → Prop} (hF : ∀ ci ∈ cs, zk_fp own index k ci ty fin) (hfn : fin = true → nm = "<init>") (d : decode cc pc = .ok (.putfield index, 3)) (h : zk_nr ty x ∧ zp_v P r cs k (.int x) K) (kk : ∀ P : zk_H, K P → zV p l e R s m args below meth c D b0 nL cells slots Q P (pc + 3) L rest) : zV p l e R s m args below meth c D b0 nL cells slots Q P pc L (.int x :: va_rf r :: rest) := by
  obtain ⟨hn, a, ci, fs, rfl, ha, hc, hv, hK⟩ := h
  exact zv_putv X (hF ci hc) hfn ha hn.1 hn.2 hv d (kk _ hK)
theorem zv_put_r (X : zk_X p s m args meth c D g b0 cc nL own nm ret) {r : Option Nat} {cs : List Nat} {index k : Nat} {x : Option Nat} {fin : Bool} {ty : FieldType} {K : zk_H → Prop} (hF : ∀ ci ∈ cs, zk_fp own index k ci ty fin) (hty : ∀ x : Option Nat, narrow ty (va_rf x) = va_rf x ∧ fits ty (va_rf x) = true) (hfn : fin = true → nm = "<init>") (d : decode cc pc = .ok (.putfield index, 3)) (h : zp_v P r cs k (va_rf x) K) (kk : ∀ P : zk_H, K P → zV p l e R s m args below meth c D b0 nL cells slots Q P (pc + 3) L rest) : zV p l e R s m args below meth c D b0 nL cells slots Q P pc L (va_rf x :: va_rf r :: rest) := by
  obtain ⟨a, ci, fs, rfl, ha, hc, hv, hK⟩ := h
  exact zv_putv X (hF ci hc) hfn ha (hty x).1 (hty x).2 hv d (kk _ hK)
theorem zk_tyO (C : String) (x : Option Nat) : narrow (.object C) (va_rf x) = va_rf x ∧ fits (.object C) (va_rf x) = true := by cases x <;> exact ⟨rfl, rfl⟩
theorem zk_tyA (t : FieldType) (x : Option Nat) : narrow (.array t) (va_rf x) = va_rf x ∧ fits (.array t) (va_rf x) = true := by cases x <;> exact ⟨rfl, rfl⟩
/-! arrays -/
theorem zv_alen (X : zk_X p s m args meth c D g b0 cc nL own nm ret) {r : Option Nat} {K : Int32 → Prop} (d : decode cc pc = .ok (.arraylength, 1)) (h : za_n P r K) (kk : ∀ x : Int32, K x → zV p l e R s m args below meth c D b0 nL cells slots Q P (pc + 1) L (.int x :: rest)) : zV p l e R s m args below meth c D b0 nL cells slots Q P pc L (va_rf r :: rest) := fun H locs ls h1 h2 h3 => by
  obtain ⟨a, t, q, rfl, ha, hK⟩ := h
  obtain ⟨cell, g1, g2, g3, g4, g5, g6⟩ := zk_at.arr X.K (h1.2 a t _ ha)
  exact W.alen (n := nI q.2.1) X.1 X.2.1 g1 g2 (by rw [g4]; rfl) rfl rfl d (kk _ hK H locs ls h1 h2 h3)
theorem zv_iald (X : zk_X p s m args meth c D g b0 cc nL own nm ret) {r : Option Nat} {i : Int32} {K : Int32 → Prop} (d : decode cc pc = .ok (.iaload, 1)) (h : za_i P r .int i K) (kk : ∀ x : Int32, K x → zV p l e R s m args below meth c D b0 nL cells slots Q P (pc + 1) L (.int x :: rest)) : zV p l e R s m args below meth c D b0 nL cells slots Q P pc L (.int i :: va_rf r :: rest) := fun H locs ls h1 h2 h3 => by
  obtain ⟨a, t, n, f, rfl, ha, hin, hK⟩ := h
  obtain ⟨cell, g1, g2, g3, g4, g5, g6⟩ := zk_at.arr X.K (h1.2 a t _ ha)
  exact W.iald (v := .int (f i.toNatClampNeg)) X.1 X.2.1 g1 g2 g3 (by rw [g4]; exact hin) (g5 _ (Nat.not_le.mp fun q => hin (Or.inr q))) rfl rfl d (kk _ hK H locs ls h1 h2 h3)
theorem zv_bald (X : zk_X p s m args meth c D g b0 cc nL own nm ret) {r : Option Nat} {i : Int32} {K : Int32 → Prop} (d : decode cc pc = .ok (.baload, 1)) (h : za_i P r .byte i K) (kk : ∀ x : Int32, K x → zV p l e R s m args below meth c D b0 nL cells slots Q P (pc + 1) L (.int x :: rest)) : zV p l e R s m args below meth c D b0 nL cells slots Q P pc L (.int i :: va_rf r :: rest) := fun H locs ls h1 h2 h3 => by
  obtain ⟨a, t, n, f, rfl, ha, hin, hK⟩ := h
  obtain ⟨cell, g1, g2, g3, g4, g5, g6⟩ := zk_at.arr X.K (h1.2 a t _ ha)
  exact W.bald (v := .int (f i.toNatClampNeg)) X.1 X.2.1 g1 g2 g3 (by rw [g4]; exact hin) (g5 _ (Nat.not_le.mp fun q => hin (Or.inr q))) rfl rfl d (kk _ hK H locs ls h1 h2 h3)
theorem zv_zald (X : zk_X p s m args meth c D g b0 cc nL own nm ret) {r : Option Nat} {i : Int32} {K : Int32 → Prop} (d : decode cc pc = .ok (.baload, 1)) (h : za_i P r .boolean i K) (kk : ∀ x : Int32, K x → zV p l e R s m args below meth c D b0 nL cells slots Q P (pc + 1) L (.int x :: rest)) : zV p l e R s m args below meth c D b0 nL cells slots Q P pc L (.int i :: va_rf r :: rest) := fun H locs ls h1 h2 h3 => by
  obtain ⟨a, t, n, f, rfl, ha, hin, hK⟩ := h
  obtain ⟨cell, g1, g2, g3, g4, g5, g6⟩ := zk_at.arr X.K (h1.2 a t _ ha)
  exact W.zald (v := .int (f i.toNatClampNeg)) X.1 X.2.1 g1 g2 g3 (by rw [g4]; exact hin) (g5 _ (Nat.not_le.mp fun q => hin (Or.inr q))) rfl rfl d (kk _ hK H locs ls h1 h2 h3)
theorem zv_lald (X : zk_X p s m args meth c D g b0 cc nL own nm ret) {r : Option Nat} {i : Int32} {K : Int64 → Prop} (d : decode cc pc = .ok (.laload, 1)) (h : za_l P r i K) (kk : ∀ x : Int64, K x → zV p l e R s m args below meth c D b0 nL cells slots Q P (pc + 1) L (.long x :: rest)) : zV p l e R s m args below meth c D b0 nL cells slots Q P pc L (.int i :: va_rf r :: rest) := fun H locs ls h1 h2 h3 => by
  obtain ⟨a, t, n, f, rfl, ha, hin, hK⟩ := h
  obtain ⟨cell, g1, g2, g3, g4, g5, g6⟩ := zk_at.arr X.K (h1.2 a t _ ha)
  exact W.lald (v := .long (f i.toNatClampNeg)) X.1 X.2.1 g1 g2 g3 (by rw [g4]; exact hin) (g5 _ (Nat.not_le.mp fun q => hin (Or.inr q))) rfl rfl d (kk _ hK H locs ls h1 h2 h3)
theorem zv_aald (X : zk_X p s m args meth c D g b0 cc nL own nm ret) {r : Option Nat} {i : Int32} {K : Option Nat → Prop} (d : decode cc pc = .ok (.aaload, 1)) (h : za_r P r i K) (kk : ∀ x : Option Nat, K x → zV p l e R s m args below meth c D b0 nL cells slots Q P (pc + 1) L (va_rf x :: rest)) : zV p l e R s m args below meth c D b0 nL cells slots Q P pc L (.int i :: va_rf r :: rest) := fun H locs ls h1 h2 h3 => by
  obtain ⟨a, t, C, n, f, rfl, ha, hin, hK⟩ := h
  obtain ⟨cell, g1, g2, g3, g4, g5, g6⟩ := zk_at.arr X.K (h1.2 a t _ ha)
  exact W.aald (v := va_rf (f i.toNatClampNeg)) X.1 X.2.1 g1 g2 rfl g3 (by rw [g4]; exact hin) (g5 _ (Nat.not_le.mp fun q => hin (Or.inr q))) rfl rfl d (kk _ hK H locs ls h1 h2 h3)
theorem zk_sto {a n : Nat} {ty : FieldType} {z z' : (Nat → Int32) ⊕ (Nat → Int64) ⊕ (Nat → UInt32) ⊕ (Nat → UInt64) ⊕ (Nat → Option Nat)} {H H1 : Heap} {locs : List Loc} {k : Nat} {v : Value} (hP : zk_R D b0 P s H) (ha : P a = some (true, .inl (ty, n, z))) (e1 : H1[a]? = some ((arrV (D.2 ty) n (zk_av z)).setSlot k v)) (hz : ∀ j : Nat, updV (zk_av z) k v j = zk_av z' j) (sz : H1.size = H.size) (oq : ∀ q : Nat, q ≠ a → H1[q]? = H[q]?) (hS : va_S (zk_A b0) s.heap H locs) : zk_R D b0 (zk_u P a (.inl (ty, n, z'))) s H1 ∧ va_S (zk_A b0) s.heap H1 (locs ++ [⟨a, k⟩]) := by
  have h := hP.2 a true _ ha
  refine ⟨hP.put ⟨?_, h.2.1, h.2.2⟩ sz oq, hS.put sz oq h.2.1⟩
  show H1[a]? = some (vp_cell (D.2 ty) (n, z'))
  rw [e1, arrV_store, zk_cell]
  congr 2
  funext j
  exact hz j
theorem zk_ar (X : zk_X p s m args meth c D g b0 cc nL own nm ret) {a n : Nat} {ty : FieldType} {z : (Nat → Int32) ⊕ (Nat → Int64) ⊕ (Nat → UInt32) ⊕ (Nat → UInt64) ⊕ (Nat → Option Nat)} {H : Heap} (hP : zk_R D b0 P s H) (ha : P a = some (true, .inl (ty, n, z))) : H[a]? = some (arrV (D.2 ty) n (zk_av z)) ∧ s.isArrayOf (arrV (D.2 ty) n (zk_av z)) ty ∧ va_RA s (D.2 ty) ty := by
  have h := hP.2 a true _ ha
  have h1 : H[a]? = some (vp_cell (D.2 ty) (n, z)) := h.1
  rw [zk_cell] at h1
  exact ⟨h1, (X.K.2 ty h.2.2).1 _ _, (X.K.2 ty h.2.2).2⟩
theorem zv_iast (X : zk_X p s m args meth c D g b0 cc nL own nm ret) {r : Option Nat} {i x : Int32} {K : zk_H → Prop} (d : decode cc pc = .ok (.iastore, 1)) (h : zs_i P r .int i x K) (kk : ∀ P : zk_H, K P → zV p l e R s m args below meth c D b0 nL cells slots Q P (pc + 1) L rest) : zV p l e R s m args below meth c D b0 nL cells slots Q P pc L (.int x :: .int i :: va_rf r :: rest) := fun H locs ls h1 h2 h3 => by
  obtain ⟨a, n, f, rfl, ha, hin, hK⟩ := h
  obtain ⟨g1, g2, -⟩ := zk_ar X h1 ha
  refine W.iast X.1 X.2.1 g1 g2 (fun q => by cases q) (by rw [arrV_size]; exact hin) rfl rfl d fun H1 e1 z oq => ?_
  obtain ⟨r1, r2⟩ := zk_sto (z' := .inl (upd f i.toNatClampNeg (vp_nar .int x))) h1 ha e1 (fun j => by by_cases hj : j = i.toNatClampNeg <;> simp [updV, upd, zk_av, hj, vp_nar, vp_nar_int]) z oq h2
  exact kk _ hK H1 _ ls r1 r2 h3
theorem zv_bast (X : zk_X p s m args meth c D g b0 cc nL own nm ret) {r : Option Nat} {i x : Int32} {K : zk_H → Prop} (d : decode cc pc = .ok (.bastore, 1)) (h : zs_i P r .byte i x K) (kk : ∀ P : zk_H, K P → zV p l e R s m args below meth c D b0 nL cells slots Q P (pc + 1) L rest) : zV p l e R s m args below meth c D b0 nL cells slots Q P pc L (.int x :: .int i :: va_rf r :: rest) := fun H locs ls h1 h2 h3 => by
  obtain ⟨a, n, f, rfl, ha, hin, hK⟩ := h
  obtain ⟨g1, g2, -⟩ := zk_ar X h1 ha
  refine W.bast X.1 X.2.1 g1 g2 (fun q => by cases q) (by rw [arrV_size]; exact hin) rfl rfl d fun H1 e1 z oq => ?_
  obtain ⟨r1, r2⟩ := zk_sto (z' := .inl (upd f i.toNatClampNeg (vp_nar .byte x))) h1 ha e1 (fun j => by by_cases hj : j = i.toNatClampNeg <;> simp [updV, upd, zk_av, hj, vp_nar, narrow]) z oq h2
  exact kk _ hK H1 _ ls r1 r2 h3
theorem zv_zast (X : zk_X p s m args meth c D g b0 cc nL own nm ret) {r : Option Nat} {i x : Int32} {K : zk_H → Prop} (d : decode cc pc = .ok (.bastore, 1)) (h : zs_i P r .boolean i x K) (kk : ∀ P : zk_H, K P → zV p l e R s m args below meth c D b0 nL cells slots Q P (pc + 1) L rest) : zV p l e R s m args below meth c D b0 nL cells slots Q P pc L (.int x :: .int i :: va_rf r :: rest) := fun H locs ls h1 h2 h3 => by
  obtain ⟨a, n, f, rfl, ha, hin, hK⟩ := h
  obtain ⟨g1, g2, -⟩ := zk_ar X h1 ha
  refine W.zast X.1 X.2.1 g1 g2 (fun q => by cases q) (by rw [arrV_size]; exact hin) rfl rfl d fun H1 e1 z oq => ?_
  obtain ⟨r1, r2⟩ := zk_sto (z' := .inl (upd f i.toNatClampNeg (vp_nar .boolean x))) h1 ha e1 (fun j => by by_cases hj : j = i.toNatClampNeg <;> simp [updV, upd, zk_av, hj, vp_nar, narrow]) z oq h2
  exact kk _ hK H1 _ ls r1 r2 h3
theorem zv_last (X : zk_X p s m args meth c D g b0 cc nL own nm ret) {r : Option Nat} {i : Int32} {x : Int64} {K : zk_H → Prop} (d : decode cc pc = .ok (.lastore, 1)) (h : zs_l P r i x K) (kk : ∀ P : zk_H, K P → zV p l e R s m args below meth c D b0 nL cells slots Q P (pc + 1) L rest) : zV p l e R s m args below meth c D b0 nL cells slots Q P pc L (.long x :: .int i :: va_rf r :: rest) := fun H locs ls h1 h2 h3 => by
  obtain ⟨a, n, f, rfl, ha, hin, hK⟩ := h
  obtain ⟨g1, g2, -⟩ := zk_ar X h1 ha
  refine W.last X.1 X.2.1 g1 g2 (fun q => by cases q) (by rw [arrV_size]; exact hin) rfl rfl d fun H1 e1 z oq => ?_
  obtain ⟨r1, r2⟩ := zk_sto (z' := .inr (.inl (vp_updL f i.toNatClampNeg x))) h1 ha e1 (fun j => by by_cases hj : j = i.toNatClampNeg <;> simp [updV, vp_updL, zk_av, hj]) z oq h2
  exact kk _ hK H1 _ ls r1 r2 h3
end ZV4
