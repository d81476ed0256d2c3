/-! THE PURE PART 1: rows that rewrite the predicates -/
theorem zi_t {c A B : Prop} (h : c) : zi c A B = A := propext ⟨fun k => k.1 h, fun k => ⟨fun _ => k, fun n => absurd h n⟩⟩
theorem zi_f {c A B : Prop} (h : ¬ c) : zi c A B = B := propext ⟨fun k => k.2 h, fun k => ⟨fun n => absurd n h, fun _ => k⟩⟩
theorem zi_iff {c d A B : Prop} (h : c ↔ d) : zi c A B = zi d A B := by rw [propext h]
theorem zi_ite {α : Type} {c : Prop} [Decidable c] {x y : α} {post : α → Prop} : zi c (post x) (post y) = post (if c then x else y) := by
  by_cases h : c
  · rw [zi_t h, if_pos h]
  · rw [zi_f h, if_neg h]
theorem zi_id {c A : Prop} : zi c A A = A := by
  by_cases h : c
  · rw [zi_t h]
  · rw [zi_f h]
theorem zi_if1 {c d A B : Prop} [Decidable d] (h : (if d then (1 : Int32) else 0) = 0 ↔ c) : zi ((if d then (1 : Int32) else 0) = 0) A B = zi c A B := zi_iff h
/-- a flag of 0 and 1, asked -/
theorem zi_b0 {d A B : Prop} [Decidable d] : zi ((if d then (1 : Int32) else 0) = 0) A B = zi d B A := by
  by_cases h : d
  · rw [if_pos h, zi_t h, zi_f (by decide)]
  · rw [if_neg h, zi_f h, zi_t rfl]
theorem zi_b1 {d A B : Prop} [Decidable d] : zi ((if d then (1 : Int32) else 0) = 1) A B = zi d A B := by
  by_cases h : d
  · rw [if_pos h, zi_t h, zi_t rfl]
  · rw [if_neg h, zi_f h, zi_f (by decide)]
theorem zi_not {c A B : Prop} : zi (¬ c) A B = zi c B A := by
  by_cases h : c
  · rw [zi_t h, zi_f (fun n => n h)]
  · rw [zi_f h, zi_t h]
theorem zi_and {c d A B : Prop} : zi (c ∧ d) A B = zi c (zi d A B) B := by
  by_cases h : c
  · rw [zi_t h]; exact zi_iff ⟨fun k => k.2, fun k => ⟨h, k⟩⟩
  · rw [zi_f h, zi_f (fun k => h k.1)]
theorem zi_or {c d A B : Prop} : zi (c ∨ d) A B = zi c A (zi d A B) := by
  by_cases h : c
  · rw [zi_t h, zi_t (Or.inl h)]
  · rw [zi_f h]; exact zi_iff ⟨fun k => k.elim (fun n => absurd n h) id, Or.inr⟩
section PR
variable {P : zk_H} {a : Nat} {t : Bool}
theorem rd_i {ty : FieldType} {n : Nat} {f : Nat → Int32} (h : P a = some (t, .inl (ty, n, .inl f))) (k : Nat) {K : Int32 → Prop} (hk : k < n) (h31 : k < 2147483648) : za_i P (some a) ty (nI k) K = K (f k) := by
  refine propext ⟨fun q => ?_, fun q => ⟨a, t, n, f, rfl, h, fun e => ?_, by rw [nI_clamp h31]; exact q⟩⟩
  · obtain ⟨b, t2, n2, f2, e, hb, -, hK⟩ := q
    cases e
    have := h.symm.trans hb
    cases this
    rw [nI_clamp h31] at hK
    exact hK
  · rw [nI_clamp h31] at e
    rcases e with e | e
    · exact nI_pos h31 e
    · omega
theorem rd_n {q : FieldType × vp_A} (h : P a = some (t, .inl q)) {K : Int32 → Prop} : za_n P (some a) K = K (nI q.2.1) := by
  refine propext ⟨fun k => ?_, fun k => ⟨a, t, q, rfl, h, k⟩⟩
  obtain ⟨b, t2, q2, e, hb, hK⟩ := k
  cases e
  cases h.symm.trans hb
  exact hK
theorem rd_r {C : String} {n : Nat} {f : Nat → Option Nat} (h : P a = some (t, .inl (.object C, n, .inr (.inr (.inr (.inr f)))))) (k : Nat) {K : Option Nat → Prop} (hk : k < n) (h31 : k < 2147483648) : za_r P (some a) (nI k) K = K (f k) := by
  refine propext ⟨fun q => ?_, fun q => ⟨a, t, C, n, f, rfl, h, fun e => ?_, by rw [nI_clamp h31]; exact q⟩⟩
  · obtain ⟨b, t2, C2, n2, f2, e, hb, -, hK⟩ := q
    cases e
    have := h.symm.trans hb
    cases this
    rw [nI_clamp h31] at hK
    exact hK
  · rw [nI_clamp h31] at e
    rcases e with e | e
    · exact nI_pos h31 e
    · omega
theorem rd_l {n : Nat} {f : Nat → Int64} (h : P a = some (t, .inl (.long, n, .inr (.inl f)))) (k : Nat) {K : Int64 → Prop} (hk : k < n) (h31 : k < 2147483648) : za_l P (some a) (nI k) K = K (f k) := by
  refine propext ⟨fun q => ?_, fun q => ⟨a, t, n, f, rfl, h, fun e => ?_, by rw [nI_clamp h31]; exact q⟩⟩
  · obtain ⟨b, t2, n2, f2, e, hb, -, hK⟩ := q
    cases e
    have := h.symm.trans hb
    cases this
    rw [nI_clamp h31] at hK
    exact hK
  · rw [nI_clamp h31] at e
    rcases e with e | e
    · exact nI_pos h31 e
    · omega
theorem wr_i {ty : FieldType} {n : Nat} {f : Nat → Int32} (h : P a = some (true, .inl (ty, n, .inl f))) (k : Nat) {x : Int32} {K : zk_H → Prop} (hk : k < n) (h31 : k < 2147483648) : zs_i P (some a) ty (nI k) x K = K (zk_u P a (.inl (ty, n, .inl (upd f k (vp_nar ty x))))) := by
  refine propext ⟨fun q => ?_, fun q => ⟨a, n, f, rfl, h, fun e => ?_, by rw [nI_clamp h31]; exact q⟩⟩
  · obtain ⟨b, n2, f2, e, hb, -, hK⟩ := q
    cases e
    have := h.symm.trans hb
    cases this
    rw [nI_clamp h31] at hK
    exact hK
  · rw [nI_clamp h31] at e
    rcases e with e | e
    · exact nI_pos h31 e
    · omega
/-- a field out of a list of values, as an int, as a reference -/
def zg_i (fs : List Value) (k : Nat) (K : Int32 → Prop) : Prop := match fs[k]? with
  | some (.int x) => K x
  | _ => False
def zg_r (fs : List Value) (k : Nat) (K : Option Nat → Prop) : Prop := ∃ x, fs[k]? = some (va_rf x) ∧ K x
variable {ci : Nat} {fs : List Value}
theorem rf_i (h : P a = some (t, .inr (ci, fs))) {cs : List Nat} {k : Nat} {x : Int32} {K : Int32 → Prop} (hc : ci ∈ cs) (hx : fs[k]? = some (.int x)) : zf_i P (some a) cs k K = K x := by
  refine propext ⟨fun q => ?_, fun q => ⟨a, t, ci, fs, x, rfl, h, hc, hx, q⟩⟩
  obtain ⟨b, t2, c2, f2, y, e, hb, -, hy, hK⟩ := q
  cases e
  have := h.symm.trans hb
  cases this
  cases hx.symm.trans hy
  exact hK
theorem va_rf_inj {x y : Option Nat} (h : va_rf x = va_rf y) : x = y := by
  cases x <;> cases y
  · rfl
  · cases h
  · cases h
  · cases h; rfl
theorem rf_r (h : P a = some (t, .inr (ci, fs))) {cs : List Nat} {k : Nat} {x : Option Nat} {K : Option Nat → Prop} (hc : ci ∈ cs) (hx : fs[k]? = some (va_rf x)) : zf_r P (some a) cs k K = K x := by
  refine propext ⟨fun q => ?_, fun q => ⟨a, t, ci, fs, x, rfl, h, hc, hx, q⟩⟩
  obtain ⟨b, t2, c2, f2, y, e, hb, -, hy, hK⟩ := q
  cases e
  have := h.symm.trans hb
  cases this
  cases va_rf_inj (Option.some.inj (hx.symm.trans hy))
  exact hK
theorem ro_e (h : P a = some (t, .inr (ci, fs))) {cs : List Nat} {K : Nat → Prop} (hc : ci ∈ cs) : zo P (some a) cs K = K a := by
  refine propext ⟨fun q => ?_, fun q => ⟨a, t, ci, fs, rfl, h, hc, q⟩⟩
  obtain ⟨b, t2, c2, f2, e, hb, -, hK⟩ := q
  cases e
  exact hK
theorem rp_v (h : P a = some (true, .inr (ci, fs))) {cs : List Nat} {k : Nat} {v : Value} {K : zk_H → Prop} (hc : ci ∈ cs) (hk : k < fs.length) : zp_v P (some a) cs k v K = K (zk_u P a (.inr (ci, fs.set k v))) := by
  refine propext ⟨fun q => ?_, fun q => ⟨a, ci, fs, rfl, h, hc, hk, q⟩⟩
  obtain ⟨b, c2, f2, e, hb, -, -, hK⟩ := q
  cases e
  have := h.symm.trans hb
  cases this
  exact hK
theorem rc_c (h : P a = some (t, .inr (ci, fs))) {cs : List Nat} {K : Prop} (hc : ci ∈ cs) : zc_c P (some a) cs K = K := propext ⟨fun q => q.2, fun q => ⟨Or.inr ⟨a, t, ci, fs, rfl, h, hc⟩, q⟩⟩
theorem rc_n {cs : List Nat} {K : Prop} : zc_c P none cs K = K := propext ⟨fun q => q.2, fun q => ⟨Or.inl rfl, q⟩⟩
theorem rc_y (h : P a = some (t, .inr (ci, fs))) {ys ns : List Nat} {K : Int32 → Prop} (hc : ci ∈ ys) (hn : ci ∉ ns) : zc_i P (some a) ys ns K = K 1 := by
  refine propext ⟨fun q => ?_, fun q => Or.inr ⟨a, t, ci, fs, rfl, h, Or.inl ⟨hc, q⟩⟩⟩
  rcases q with ⟨e, -⟩ | ⟨b, t2, c2, f2, e, hb, q⟩
  · cases e
  · cases e
    cases h.symm.trans hb
    rcases q with q | q
    · exact q.2
    · exact absurd q.1 hn
theorem rc_x (h : P a = some (t, .inr (ci, fs))) {ys ns : List Nat} {K : Int32 → Prop} (hc : ci ∈ ns) (hn : ci ∉ ys) : zc_i P (some a) ys ns K = K 0 := by
  refine propext ⟨fun q => ?_, fun q => Or.inr ⟨a, t, ci, fs, rfl, h, Or.inr ⟨hc, q⟩⟩⟩
  rcases q with ⟨e, -⟩ | ⟨b, t2, c2, f2, e, hb, q⟩
  · cases e
  · cases e
    cases h.symm.trans hb
    rcases q with q | q
    · exact absurd q.1 hn
    · exact q.2
theorem rc_a {ty : FieldType} {x : vp_A} (h : P a = some (t, .inl (ty, x))) {K : Prop} : zc_a P (some a) ty K = K := propext ⟨fun q => q.2, fun q => ⟨⟨a, t, x, rfl, h⟩, q⟩⟩
end PR
theorem zk_uu {P : zk_H} {a : Nat} {x y : zk_E} : zk_u (zk_u P a x) a y = zk_u P a y := by
  funext b
  unfold zk_u
  by_cases h : b = a <;> simp [h]
/-! loops: the states are functions of the round -/
section LP
variable {A B C D E : Type}
theorem ql1 (body : (A → Prop) → A → Prop) (wl : Nat → A → Prop) (h0 : ∀ a, wl 0 a = False) (hs : ∀ n a, wl (n + 1) a = body (wl n) a) (m : Nat) (s1 : Nat → A) (T Cn Ex : Nat → Prop)
    (hb : ∀ k, k < m → ∀ K, body K (s1 k) = zi (Cn k) (Ex k) (K (s1 (k + 1)))) (hT : ∀ k, k < m → T k = zi (Cn k) (Ex k) (T (k + 1))) (hm : ∀ K, body K (s1 m) = T m) : (∃ j, wl j (s1 0)) = T 0 := by
  have h1 : ∀ j k, k ≤ m → wl j (s1 k) → T k := by
    intro j
    induction j with
    | zero => intro k _ h; rw [h0] at h; exact h.elim
    | succ j ih =>
      intro k hk h
      rw [hs] at h
      by_cases e : k = m
      · subst e; rw [hm] at h; exact h
      · rw [hb k (by omega)] at h
        rw [hT k (by omega)]
        exact ⟨h.1, fun n => ih (k + 1) (by omega) (h.2 n)⟩
  have h2 : ∀ j k, k + j = m → T k → wl (j + 1) (s1 k) := by
    intro j
    induction j with
    | zero => intro k hk h; rw [hs]; have : k = m := by omega
              subst this; rw [hm]; exact h
    | succ j ih =>
      intro k hk h
      rw [hs, hb k (by omega)]
      rw [hT k (by omega)] at h
      exact ⟨h.1, fun n => ih (k + 1) (by omega) (h.2 n)⟩
  exact propext ⟨fun ⟨j, h⟩ => h1 j 0 (by omega) h, fun h => ⟨m + 1, h2 m 0 (by omega) h⟩⟩
theorem ql2 (body : (A → B → Prop) → A → B → Prop) (wl : Nat → A → B → Prop) (h0 : ∀ a b, wl 0 a b = False) (hs : ∀ n a b, wl (n + 1) a b = body (wl n) a b) (m : Nat) (s1 : Nat → A) (s2 : Nat → B) (T Cn Ex : Nat → Prop)
    (hb : ∀ k, k < m → ∀ K, body K (s1 k) (s2 k) = zi (Cn k) (Ex k) (K (s1 (k + 1)) (s2 (k + 1)))) (hT : ∀ k, k < m → T k = zi (Cn k) (Ex k) (T (k + 1))) (hm : ∀ K, body K (s1 m) (s2 m) = T m) : (∃ j, wl j (s1 0) (s2 0)) = T 0 :=
  ql1 (A := A × B) (fun K s => body (fun a b => K (a, b)) s.1 s.2) (fun n s => wl n s.1 s.2) (fun s => h0 s.1 s.2) (fun n s => hs n s.1 s.2) m (fun k => (s1 k, s2 k)) T Cn Ex (fun k hk K => hb k hk _) hT (fun K => hm _)
theorem ql3 (body : (A → B → C → Prop) → A → B → C → Prop) (wl : Nat → A → B → C → Prop) (h0 : ∀ a b c, wl 0 a b c = False) (hs : ∀ n a b c, wl (n + 1) a b c = body (wl n) a b c) (m : Nat) (s1 : Nat → A) (s2 : Nat → B) (s3 : Nat → C) (T Cn Ex : Nat → Prop)
    (hb : ∀ k, k < m → ∀ K, body K (s1 k) (s2 k) (s3 k) = zi (Cn k) (Ex k) (K (s1 (k + 1)) (s2 (k + 1)) (s3 (k + 1)))) (hT : ∀ k, k < m → T k = zi (Cn k) (Ex k) (T (k + 1))) (hm : ∀ K, body K (s1 m) (s2 m) (s3 m) = T m) : (∃ j, wl j (s1 0) (s2 0) (s3 0)) = T 0 :=
  ql1 (A := A × B × C) (fun K s => body (fun a b c => K (a, b, c)) s.1 s.2.1 s.2.2) (fun n s => wl n s.1 s.2.1 s.2.2) (fun s => h0 s.1 s.2.1 s.2.2) (fun n s => hs n s.1 s.2.1 s.2.2) m (fun k => (s1 k, s2 k, s3 k)) T Cn Ex (fun k hk K => hb k hk _) hT (fun K => hm _)
theorem ql4 (body : (A → B → C → D → Prop) → A → B → C → D → Prop) (wl : Nat → A → B → C → D → Prop) (h0 : ∀ a b c d, wl 0 a b c d = False) (hs : ∀ n a b c d, wl (n + 1) a b c d = body (wl n) a b c d) (m : Nat) (s1 : Nat → A) (s2 : Nat → B) (s3 : Nat → C) (s4 : Nat → D) (T Cn Ex : Nat → Prop)
    (hb : ∀ k, k < m → ∀ K, body K (s1 k) (s2 k) (s3 k) (s4 k) = zi (Cn k) (Ex k) (K (s1 (k + 1)) (s2 (k + 1)) (s3 (k + 1)) (s4 (k + 1)))) (hT : ∀ k, k < m → T k = zi (Cn k) (Ex k) (T (k + 1))) (hm : ∀ K, body K (s1 m) (s2 m) (s3 m) (s4 m) = T m) : (∃ j, wl j (s1 0) (s2 0) (s3 0) (s4 0)) = T 0 :=
  ql1 (A := A × B × C × D) (fun K s => body (fun a b c d => K (a, b, c, d)) s.1 s.2.1 s.2.2.1 s.2.2.2) (fun n s => wl n s.1 s.2.1 s.2.2.1 s.2.2.2) (fun s => h0 s.1 s.2.1 s.2.2.1 s.2.2.2) (fun n s => hs n s.1 s.2.1 s.2.2.1 s.2.2.2) m (fun k => (s1 k, s2 k, s3 k, s4 k)) T Cn Ex (fun k hk K => hb k hk _) hT (fun K => hm _)
end LP
