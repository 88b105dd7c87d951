/-! ===== glue for the walks ===== -/
set_option maxRecDepth 100000
/-- how often a loop may turn, at most -/
def FU : Nat := 1000000
theorem FU_ge {n : Nat} (h : n ≤ 1000000) : n ≤ FU := h
def bnd2 {α β γ : Type} (o : Option (α × β)) (f : α → β → Option γ) : Option γ := o.bind fun q => f q.1 q.2
theorem bnd2_eq {α β γ : Type} {o : Option (α × β)} {f : α → β → Option γ} {r : γ} (h : bnd2 o f = some r) : ∃ a b, o = some (a, b) ∧ f a b = some r := by
  obtain ⟨⟨a, b⟩, h1, h2⟩ := Option.bind_eq_some_iff.mp h
  exact ⟨a, b, h1, h2⟩
theorem bnd2_some {α β γ : Type} (a : α) (b : β) (f : α → β → Option γ) : bnd2 (some (a, b)) f = f a b := rfl
def bndT {α β : Type} (o : Option ((Nat ⊕ α) × aH)) (f : α → aH → Option ((Nat ⊕ β) × aH)) : Option ((Nat ⊕ β) × aH) := o.bind fun q => match q.1 with
  | .inl k => some (.inl k, q.2)
  | .inr a => f a q.2
theorem bndT_inr {α β : Type} (a : α) (h : aH) (f : α → aH → Option ((Nat ⊕ β) × aH)) : bndT (some (.inr a, h)) f = f a h := rfl
theorem bndT_inl {α β : Type} (k : Nat) (h : aH) (f : α → aH → Option ((Nat ⊕ β) × aH)) : bndT (some (.inl k, h)) f = some (.inl k, h) := rfl
theorem bndT_eq {α β : Type} {o : Option ((Nat ⊕ α) × aH)} {f : α → aH → Option ((Nat ⊕ β) × aH)} {r : (Nat ⊕ β) × aH} (h : bndT o f = some r) : (∃ k h1, o = some (.inl k, h1) ∧ r = (.inl k, h1)) ∨ ∃ a h1, o = some (.inr a, h1) ∧ f a h1 = some r := by
  obtain ⟨⟨q, h1⟩, e1, e2⟩ := Option.bind_eq_some_iff.mp h
  cases q with
  | inl k => exact Or.inl ⟨k, h1, e1, (Option.some.inj e2).symm⟩
  | inr a => exact Or.inr ⟨a, h1, e1, e2⟩
theorem oB {α β : Type} {o : Option α} {f : α → Option β} {r : β} (h : o.bind f = some r) : ∃ a, o = some a ∧ f a = some r := Option.bind_eq_some_iff.mp h
def wI : Nat ⊕ Int32 → Nat ⊕ Option Value := fun q => match q with
  | .inl k => .inl k
  | .inr x => .inr (some (.int x))
def wJ : Nat ⊕ Int64 → Nat ⊕ Option Value := fun q => match q with
  | .inl k => .inl k
  | .inr x => .inr (some (.long x))
def wF : Nat ⊕ UInt32 → Nat ⊕ Option Value := fun q => match q with
  | .inl k => .inl k
  | .inr x => .inr (some (.float x))
def wD : Nat ⊕ UInt64 → Nat ⊕ Option Value := fun q => match q with
  | .inl k => .inl k
  | .inr x => .inr (some (.double x))
def wA : Nat ⊕ Option Nat → Nat ⊕ Option Value := fun q => match q with
  | .inl k => .inl k
  | .inr x => .inr (some (va_rf x))
def wU : Nat ⊕ Unit → Nat ⊕ Option Value := fun q => match q with
  | .inl k => .inl k
  | .inr _ => .inr none
/-- asked: a boolean; no zero; a number -/
def ckZ (x : Int32) : Option Unit := if x = 0 ∨ x = 1 then some () else none
def ckN (x : Int32) : Option Unit := if x = 0 then none else some ()
def ck64 (r : UInt64) : Option Unit := if r &&& 0x7fffffffffffffff ≤ 0x7ff0000000000000 then some () else none
def ck32 (r : UInt32) : Option Unit := if r &&& 0x7fffffff ≤ 0x7f800000 then some () else none
theorem ckZ_eq {x : Int32} {u : Unit} (h : ckZ x = some u) : x = 0 ∨ x = 1 := by
  unfold ckZ at h
  split at h
  · assumption
  · cases h
theorem ckN_eq {x : Int32} {u : Unit} (h : ckN x = some u) : ¬ x = 0 := by
  unfold ckN at h
  split at h
  · cases h
  · assumption
theorem ck64_eq {x : UInt64} {u : Unit} (h : ck64 x = some u) : vf_n64 x := by
  unfold ck64 at h
  split at h
  · assumption
  · cases h
theorem ck32_eq {x : UInt32} {u : Unit} (h : ck32 x = some u) : vf_n32 x := by
  unfold ck32 at h
  split at h
  · assumption
  · cases h
/-- the weight of what lies on the stack -/
theorem aw_0 : (([] : List Value).map fun v => v.category).sum ≤ 0 := Nat.le_refl _
theorem aw_i {x : Int32} {r : List Value} {n : Nat} (h : (r.map fun v => v.category).sum ≤ n) : ((Value.int x :: r).map fun v => v.category).sum ≤ n + 1 := by
  rw [List.map_cons, List.sum_cons]
  have : (Value.int x).category = 1 := rfl
  omega
theorem aw_f {x : UInt32} {r : List Value} {n : Nat} (h : (r.map fun v => v.category).sum ≤ n) : ((Value.float x :: r).map fun v => v.category).sum ≤ n + 1 := by
  rw [List.map_cons, List.sum_cons]
  have : (Value.float x).category = 1 := rfl
  omega
theorem aw_l {x : Int64} {r : List Value} {n : Nat} (h : (r.map fun v => v.category).sum ≤ n) : ((Value.long x :: r).map fun v => v.category).sum ≤ n + 2 := by
  rw [List.map_cons, List.sum_cons]
  have : (Value.long x).category = 2 := rfl
  omega
theorem aw_d {x : UInt64} {r : List Value} {n : Nat} (h : (r.map fun v => v.category).sum ≤ n) : ((Value.double x :: r).map fun v => v.category).sum ≤ n + 2 := by
  rw [List.map_cons, List.sum_cons]
  have : (Value.double x).category = 2 := rfl
  omega
theorem aw_r {x : Option Nat} {r : List Value} {n : Nat} (h : (r.map fun v => v.category).sum ≤ n) : ((va_rf x :: r).map fun v => v.category).sum ≤ n + 1 := by
  rw [List.map_cons, List.sum_cons]
  have := va_rfc x
  omega
/-- the arguments' widths -/
theorem ap_0 : ∀ q ∈ ([] : List (Bool × Value)), q.1 = (q.2.category == 2) := fun q hq => by cases hq
theorem ap_c {w : Bool} {v : Value} {r : List (Bool × Value)} (h1 : w = (v.category == 2)) (h : ∀ q ∈ r, q.1 = (q.2.category == 2)) : ∀ q ∈ (w, v) :: r, q.1 = (q.2.category == 2) := fun q hq => by
  rcases List.mem_cons.mp hq with rfl | hq
  · exact h1
  · exact h q hq
theorem ap_r {x : Option Nat} {r : List (Bool × Value)} (h : ∀ q ∈ r, q.1 = (q.2.category == 2)) : ∀ q ∈ (false, va_rf x) :: r, q.1 = (q.2.category == 2) := ap_c (by rw [va_rfc]; rfl) h
theorem lg_sl_sum (as : List Value) : (lg_sl as).length = (as.map fun v => v.category).sum := by
  have h : ∀ (as : List Value), (lg_sl as).length = (as.map fun v => v.category).sum := by
    intro as
    induction as with
    | nil => rfl
    | cons v r ih =>
      rw [List.map_cons, List.sum_cons, ← ih]
      unfold lg_sl
      rw [List.flatMap_cons, List.length_append]
      congr 1
      cases v <;> rfl
  exact h as
theorem al_of {as : List Value} {n k : Nat} (h : (as.map fun v => v.category).sum ≤ k) (hk : k ≤ n) : (lg_sl as).length ≤ n := by
  rw [lg_sl_sum]; omega
/-- fits -/
theorem ft_o {n : String} {x : Option Nat} : fits (.object n) (va_rf x) = true := by cases x <;> rfl
theorem ft_a {t : FieldType} {x : Option Nat} : fits (.array t) (va_rf x) = true := by cases x <;> rfl
theorem ft_z {x : Int32} (h : x = 0 ∨ x = 1) : fits .boolean (.int x) = true := by rcases h with rfl | rfl <;> rfl
theorem nr_z {x : Int32} (h : x = 0 ∨ x = 1) : narrow .boolean (.int x) = .int x := by rcases h with rfl | rfl <;> rfl
/-- the walk's frame: its context, where it began, what it returns -/
def aX (p : Program) (l : Launch) (R : Room) (s : State) (m : MethodId) (meth : Method) (c : Code) (D : aD) (n0 s0 : Nat) (y : MethodName) (cc : ByteArray) (rf rl nL : Nat) (ret : Option FieldType) (h0 : aH) : Prop :=
  aC p l R s m meth c D n0 s0 y.cls cc rf rl nL ∧ n0 = h0.1 ∧ s0 = h0.2.1 ∧ meth.sig.returnType = ret ∧ (∀ x ∈ c.exceptionTable.toList, False) ∧ meth.name = y.name ∧ s.methodNamed? y = some m
theorem vx_ofWF {l : Launch} {y : MethodName} {ws ws' : List Cond} {rm : Room} {Pc : Array Value → State → Prop} {Qc : Array Value → State → Outcome → State → Prop} {XC : String → State → State → Prop} {mc ms : Nat} {free : Addr → Prop} {cc : ByteArray} {maxL : Nat} {ret : Option FieldType}
    (hy : plainFor y = true) (hw : ws = Cond.code y cc maxL ret :: ws')
    (body : ∀ p e s m args below meth c s₁, BodyLoose p l y (headSpec ws rm) cc maxL ret e s m args below meth c s₁ → c.maxLocals = maxL → (∀ x ∈ c.exceptionTable.toList, False) → Pc args s →
      W p l e (headSpec ws rm).room s m args below meth c s.heap [] 0 0 (vx_MQ below Qc XC args s mc ms free) (entryFrame m args maxL)) : vx_Met l y ws rm Pc Qc XC mc ms free := by
  refine MetFree.of_bodySF (code := cc) (maxLocals := maxL) (ret := ret) hy ?_ ?_
  · intro args s m h hn
    obtain ⟨meth, c, h1, h2, h3, h4, h5, h6, -, -⟩ := Cond.code_spec hn (atoms_spec (ws := ws) h _ (by rw [hw]; exact List.mem_cons_self))
    exact ⟨meth, c, h1, h2, h3, h4, h5, h6⟩
  · intro p e s m args below meth c s₁ B hml hP _
    have hh0 : s₁.heap = s.heap := by rw [B.state]; rfl
    have ht : ∀ x ∈ c.exceptionTable.toList, False := by
      obtain ⟨meth9, c9, h1, h2, -, -, -, -, h7, -⟩ := Cond.code_spec B.named (atoms_spec (ws := ws) B.pre _ (by rw [hw]; exact List.mem_cons_self))
      cases Option.some.inj (h1.symm.trans B.method)
      cases Option.some.inj (h2.symm.trans (Stand.of_body B).code)
      intro x hx
      rw [Array.isEmpty_iff.mp h7] at hx
      cases hx
    obtain ⟨t, a1, o, b1, b2, b3⟩ := body p e s m args below meth c s₁ B hml ht hP s₁ hh0 (Stand.of_body B)
    exact ⟨t, o, a1, b1, b2, b3⟩
/-- a contract out of a walk -/
theorem aM.ofX {l : Launch} {D : aD} {y : MethodName} {cc : ByteArray} {maxL : Nat} {ret : Option FieldType} {rf rl : Nat} {as : List Value} (ps : List (Bool × Value)) (has : ps.map (·.2) = as) (hps : ∀ q ∈ ps, q.1 = (q.2.category == 2)) {h : aH} {res : aRes} (hy : plainFor y = true) (hst : l.stackTraces = false) (hn : (lg_sl as).length ≤ maxL)
    (body : ∀ p e s m args below meth c, aX p l (aRm D h rf rl) s m meth c D h.1 h.2.1 y cc rf rl maxL ret h →
      V p l e (aRm D h rf rl) s m args below meth c D h.1 h.2.1 (aEnd D below args s h res) h 0 (aArgs 0 ps) []) : aM l D y cc maxL ret rf rl as h res := by
  refine vx_ofWF (cc := cc) (maxL := maxL) (ret := ret) hy rfl ?_
  intro p e s m args below meth c s₁ B hml hx hP
  obtain ⟨rfl, hV, hO, hR⟩ := hP
  have hl := lv_entry as (n := maxL) hn
  rw [lg_entry_eq]
  refine body p e s m as.toArray below meth c ⟨⟨B.exec, B.bytes, findClass_of_methodNamed B.named, hV, B.notSynchronized, Nat.le_refl _, Nat.le_refl _, ?_, ?_, hst, hO, hml⟩, rfl, rfl, B.returns, hx, (name_of_methodNamed B.named B.method).1, B.named⟩ s.heap [] 0 0 _ hR hO (Nat.le_refl _) (fun z hz => by cases hz) (by omega) (by omega) ⟨by rw [hml, aArgs_map ps 0 hps, has]; exact hl, aArgs_cat ps 0 hps⟩
  · show D.2.1 ≤ (D.2.1 - h.1) + h.1
    omega
  · show D.2.2.1 ≤ (D.2.2.1 - h.2.1) + h.2.1
    omega
theorem aC.st {p : Program} {l : Launch} {R : Room} {s : State} {m : MethodId} {meth : Method} {c : Code} {D : aD} {n0 s0 : Nat} {own : String} {cc : ByteArray} {rf rl nL : Nat} (C : aC p l R s m meth c D n0 s0 own cc rf rl nL) : l.stackTraces = false := C.2.2.2.2.2.2.2.2.2.1
section AGL
variable {p : Program} {l : Launch} {e : Env} {R : Room} {s : State} {m : MethodId} {args : Array Value} {below : List Frame} {meth : Method} {c : Code} {D : aD} {n0 s0 : Nat} {Q : State → Prop}
variable {own : String} {cc : ByteArray} {rf rl nL : Nat} {h h' : aH} {pc : Nat} {lv : aLv} {st : List Value}
theorem v_call {h2 : aH} {v : Value} {rest : List Value} {a : Array Value} {len : Nat}
    (hd : ∀ (H : Heap) (locs : List Loc) (k n : Nat) (ls : Array Slot), aRel D h H → aOld D H → s.heap.size ≤ H.size → k + n0 ≤ h.1 → n + s0 ≤ h.2.1 → ls.size = c.maxLocals → ∀ T : State, T.heap = H → Stand p l e R s m args below meth c T locs k n → aDisj p l e R s m args below meth c D h (.inr (some v), h2) T locs k n (F0 m pc ls st) rest a len)
    (kk : V p l e R s m args below meth c D n0 s0 Q h2 (pc + len) lv (v :: rest)) : V p l e R s m args below meth c D n0 s0 Q h pc lv st := v_ofD hd kk
theorem v_callU {h2 : aH} {rest : List Value} {a : Array Value} {len : Nat}
    (hd : ∀ (H : Heap) (locs : List Loc) (k n : Nat) (ls : Array Slot), aRel D h H → aOld D H → s.heap.size ≤ H.size → k + n0 ≤ h.1 → n + s0 ≤ h.2.1 → ls.size = c.maxLocals → ∀ T : State, T.heap = H → Stand p l e R s m args below meth c T locs k n → aDisj p l e R s m args below meth c D h (.inr none, h2) T locs k n (F0 m pc ls st) rest a len)
    (kk : V p l e R s m args below meth c D n0 s0 Q h2 (pc + len) lv rest) : V p l e R s m args below meth c D n0 s0 Q h pc lv st := v_ofD hd kk
theorem v_statR (C : aC p l R s m meth c D n0 s0 own cc rf rl nL) {q9 : String × String × String} {index k9 : Nat} {r : Option Nat} (hk : aSt[k9]? = some q9) (hl : Cond.fieldLink own index q9.1 q9.2.1 q9.2.2 ∈ lw_all) (hf : asR (D.2.2.2.2 k9) = some r) (d : decode cc pc = .ok (.getstatic index, 3)) (k : V p l e R s m args below meth c D n0 s0 Q h (pc + 3) lv (va_rf r :: st)) : V p l e R s m args below meth c D n0 s0 Q h pc lv st :=
  v_getstatic C hk hl d (by rw [asR_eq hf]; exact k)
theorem v_statI (C : aC p l R s m meth c D n0 s0 own cc rf rl nL) {q9 : String × String × String} {index k9 : Nat} {r : Int32} (hk : aSt[k9]? = some q9) (hl : Cond.fieldLink own index q9.1 q9.2.1 q9.2.2 ∈ lw_all) (hf : asI (D.2.2.2.2 k9) = some r) (d : decode cc pc = .ok (.getstatic index, 3)) (k : V p l e R s m args below meth c D n0 s0 Q h (pc + 3) lv (.int r :: st)) : V p l e R s m args below meth c D n0 s0 Q h pc lv st :=
  v_getstatic C hk hl d (by rw [asI_eq hf]; exact k)
theorem v_mirrorR (C : aC p l R s m meth c D n0 s0 own cc rf rl nL) {index : Nat} {r : Option Nat} (hcl : Cond.classLink own index "[Ljava/lang/Object;" ∈ lw_all) (hf : asR (D.2.2.2.2 100) = some r) (d : decode cc pc = .ok (.ldc index, 2)) (k : V p l e R s m args below meth c D n0 s0 Q h (pc + 2) lv (va_rf r :: st)) : V p l e R s m args below meth c D n0 s0 Q h pc lv st :=
  v_mirror C hcl d (by rw [asR_eq hf]; exact k)
end AGL
