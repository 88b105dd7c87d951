/-! ===== glue, further ===== -/
set_option maxRecDepth 100000
def aTag (h : aH) (r : Option Nat) : Option Nat := (aCell h r).map fun q => q.2.1
theorem aTag_eq {h : aH} {r : Option Nat} {t : Nat} (e : aTag h r = some t) : ∃ (b : Nat) (fs : List Value), r = some b ∧ h.2.2 b = some (t, fs) := by
  obtain ⟨⟨a, t', fs⟩, e1, e2⟩ := Option.map_eq_some_iff.mp e
  obtain ⟨h1, h2⟩ := aCell_eq e1
  cases e2
  exact ⟨a, fs, h1, h2⟩
def bnd3 {α β γ δ : Type} (o : Option (α × β × γ)) (f : α → β → γ → Option δ) : Option δ := o.bind fun q => f q.1 q.2.1 q.2.2
theorem bnd3_eq {α β γ δ : Type} {o : Option (α × β × γ)} {f : α → β → γ → Option δ} {r : δ} (h : bnd3 o f = some r) : ∃ a b c, o = some (a, b, c) ∧ f a b c = some r := by
  obtain ⟨⟨a, b, c⟩, h1, h2⟩ := Option.bind_eq_some_iff.mp h
  exact ⟨a, b, c, h1, h2⟩
/-- what a lambda's object holds -/
def aLam (h : aH) (t : Nat) (r : Option Nat) : Option (List Value) := (aCell h r).bind fun q => if q.2.1 = t then some q.2.2 else none
theorem aLam_eq {h : aH} {t : Nat} {r : Option Nat} {vs : List Value} (e : aLam h t r = some vs) : ∃ b : Nat, r = some b ∧ h.2.2 b = some (t, vs) := by
  unfold aLam at e
  obtain ⟨⟨a, t', fs⟩, e1, e2⟩ := Option.bind_eq_some_iff.mp e
  obtain ⟨h1, h2⟩ := aCell_eq e1
  dsimp only at e2 h1 h2
  split at e2
  · rename_i ht
    cases e2
    subst ht
    exact ⟨a, h1, h2⟩
  · cases e2
def lmA (vs : List Value) : Option (Option Nat) := match vs with
  | [v] => asR v
  | _ => none
def lmAA (vs : List Value) : Option (Option Nat × Option Nat) := match vs with
  | [v, w] => (asR v).bind fun a => (asR w).bind fun b => some (a, b)
  | _ => none
def lmAI (vs : List Value) : Option (Option Nat × Int32) := match vs with
  | [v, w] => (asR v).bind fun a => (asI w).bind fun b => some (a, b)
  | _ => none
def lmIAI (vs : List Value) : Option (Int32 × Option Nat × Int32) := match vs with
  | [u, v, w] => (asI u).bind fun i => (asR v).bind fun a => (asI w).bind fun b => some (i, a, b)
  | _ => none
theorem lmA_eq {h : aH} {t : Nat} {r x : Option Nat} (e : (aLam h t r).bind lmA = some x) : ∃ b : Nat, r = some b ∧ h.2.2 b = some (t, [va_rf x]) := by
  obtain ⟨vs, e1, e2⟩ := oB e
  obtain ⟨b, h1, h2⟩ := aLam_eq e1
  refine ⟨b, h1, ?_⟩
  unfold lmA at e2
  split at e2
  · rw [h2, asR_eq e2]
  · cases e2
theorem lmAA_eq {h : aH} {t : Nat} {r x y : Option Nat} (e : (aLam h t r).bind lmAA = some (x, y)) : ∃ b : Nat, r = some b ∧ h.2.2 b = some (t, [va_rf x, va_rf y]) := by
  obtain ⟨vs, e1, e2⟩ := oB e
  obtain ⟨b, h1, h2⟩ := aLam_eq e1
  refine ⟨b, h1, ?_⟩
  unfold lmAA at e2
  split at e2
  · obtain ⟨u, e3, e2⟩ := oB e2
    obtain ⟨w, e4, e2⟩ := oB e2
    cases e2
    rw [h2, asR_eq e3, asR_eq e4]
  · cases e2
theorem lmAI_eq {h : aH} {t : Nat} {r x : Option Nat} {y : Int32} (e : (aLam h t r).bind lmAI = some (x, y)) : ∃ b : Nat, r = some b ∧ h.2.2 b = some (t, [va_rf x, .int y]) := by
  obtain ⟨vs, e1, e2⟩ := oB e
  obtain ⟨b, h1, h2⟩ := aLam_eq e1
  refine ⟨b, h1, ?_⟩
  unfold lmAI at e2
  split at e2
  · obtain ⟨u, e3, e2⟩ := oB e2
    obtain ⟨w, e4, e2⟩ := oB e2
    cases e2
    rw [h2, asR_eq e3, asI_eq e4]
  · cases e2
theorem lmIAI_eq {h : aH} {t : Nat} {r x : Option Nat} {y z : Int32} (e : (aLam h t r).bind lmIAI = some (y, x, z)) : ∃ b : Nat, r = some b ∧ h.2.2 b = some (t, [.int y, va_rf x, .int z]) := by
  obtain ⟨vs, e1, e2⟩ := oB e
  obtain ⟨b, h1, h2⟩ := aLam_eq e1
  refine ⟨b, h1, ?_⟩
  unfold lmIAI at e2
  split at e2
  · obtain ⟨u, e3, e2⟩ := oB e2
    obtain ⟨w, e4, e2⟩ := oB e2
    obtain ⟨w2, e5, e2⟩ := oB e2
    cases e2
    rw [h2, asI_eq e3, asR_eq e4, asI_eq e5]
  · cases e2
theorem va_Decl_of {s : State} {x : MethodName} (h : ∀ args, (Cond.declares x).before args s = true) : va_Decl s x := va_Decl.abs (h #[])
section AGL2
variable {p : Program} {l : Launch} {e : Env} {R : Room} {s : State} {m : MethodId} {args : Array Value} {below : List Frame} {meth : Method} {c : Code} {D : aD} {n0 s0 : Nat} {Q : State → Prop}
variable {own : String} {cc : ByteArray} {rf rl nL : Nat} {h h' : aH} {pc : Nat} {lv : aLv} {st : List Value}
def aD9 (p : Program) (l : Launch) (e : Env) (R : Room) (s : State) (m : MethodId) (args : Array Value) (below : List Frame) (meth : Method) (c : Code) (D : aD) (n0 s0 : Nat) (h : aH) (res : aRes) (pc : Nat) (st rest : List Value) (a : Array Value) (len : Nat) : Prop :=
  ∀ (H : Heap) (locs : List Loc) (k n : Nat) (ls : Array Slot), aRel D h H → aOld D H → s.heap.size ≤ H.size → k + n0 ≤ h.1 → n + s0 ≤ h.2.1 → ls.size = c.maxLocals → ∀ T : State, T.heap = H → Stand p l e R s m args below meth c T locs k n → aDisj p l e R s m args below meth c D h res T locs k n (F0 m pc ls st) rest a len
theorem v_ldc_w (C : aC p l R s m meth c D n0 s0 own cc rf rl nL) {index : Nat} {v : Int32} (hc : Jvm.Cond.constant own index v ∈ lw_all) (d : decode cc pc = .ok (.ldc_w index, 3)) (k : V p l e R s m args below meth c D n0 s0 Q h (pc + 3) lv (.int v :: st)) : V p l e R s m args below meth c D n0 s0 Q h pc lv st :=
  fun H locs k' n ls h1 h2 h3 h4 h5 h6 h7 => lv_ldcw C.1 C.2.1 C.2.2.1 (C.2.2.2.1.1.use (g_all hc)) d (k H locs k' n ls h1 h2 h3 h4 h5 h6 h7)
/-- a value is given a name -/
theorem vst {α : Type} {a b : α} (h : a = b) (f : α → List Value) (k : V p l e R s m args below meth c D n0 s0 Q h' pc lv (f b)) : V p l e R s m args below meth c D n0 s0 Q h' pc lv (f a) := by rw [h]; exact k
theorem v_getClassR (C : aC p l R s m meth c D n0 s0 own cc rf rl nL) {index b : Nat} {r x : Option Nat} {fs : List Value} (hr : r = some b) (hb : h.2.2 b = some (103, fs)) (hl : Cond.methodLink own index ⟨"java/lang/Object", "getClass", "()Ljava/lang/Class;"⟩ ∈ lw_all) (hsel : Cond.selects "[Ljava/lang/Object;" ⟨"java/lang/Object", "getClass", "()Ljava/lang/Class;"⟩ ⟨"java/lang/Object", "getClass", "()Ljava/lang/Class;"⟩ ∈ lw_all) (hrf : 1 ≤ rf) (hrl : (st.map fun v => v.category).sum + 14 ≤ rl) (hf : asR (D.2.2.2.2 100) = some x) (d : decode cc pc = .ok (.invokevirtual index, 3)) (k : V p l e R s m args below meth c D n0 s0 Q h (pc + 3) lv (va_rf x :: st)) : V p l e R s m args below meth c D n0 s0 Q h pc lv (va_rf r :: st) :=
  v_getClass C hr hb hl hsel hrf hrl d (by rw [asR_eq hf]; exact k)
end AGL2
