/-! ===== calls ===== -/
set_option maxRecDepth 100000
/-- what is asked of a method that is called -/
def aY (y : MethodName) (cc : ByteArray) (maxL : Nat) (ret : Option FieldType) (n : Nat) : Prop := Cond.code y cc maxL ret ∈ lw_all ∧ Cond.initialized y.cls ∈ lw_all ∧ (y.cls ≠ "java/lang/invoke/MethodHandle" ∧ y.cls ≠ "java/lang/invoke/VarHandle") ∧ (parseMethodDescriptor y.desc).map (fun d => d.parameters.length) = some n
theorem aY.len {y : MethodName} {cc : ByteArray} {maxL : Nat} {ret : Option FieldType} {n : Nat} (h : aY y cc maxL ret n) : ∀ sig, parseMethodDescriptor y.desc = some sig → n = sig.parameters.length := fun sig e => by
  have h2 := h.2.2.2
  rw [e] at h2
  exact (Option.some.inj h2).symm
/-- an instance method's words: of receivers of class C -/
def aYi (y : MethodName) (C : String) : Prop := Cond.instanceMethod y ∈ lw_all ∧ Cond.selects C y y ∈ lw_all
section ACL
variable {p : Program} {l : Launch} {e : Env} {R : Room} {s : State} {m : MethodId} {args : Array Value} {below : List Frame} {meth : Method} {c : Code} {D : aD} {n0 s0 : Nat} {Q : State → Prop}
variable {own : String} {cc : ByteArray} {rf rl nL : Nat} {h h' : aH} {pc : Nat} {lv : aLv} {st : List Value}
def aDisj (p : Program) (l : Launch) (e : Env) (R : Room) (s : State) (m : MethodId) (args : Array Value) (below : List Frame) (meth : Method) (c : Code) (D : aD) (h : aH) (res : aRes) (T : State) (locs : List Loc) (k n : Nat) (g : JFrame) (rest : List Value) (a : Array Value) (len : Nat) : Prop :=
  (∃ (v : Option Value) (vm₁ : Vm) (B : Pt), s.WarmedH vm₁ ∧ Stand p l e R s m args below meth c B.U B.locs B.cells B.slots ∧ PostOf (aQc D h res) (res.2.1 - h.1) (res.2.2.1 - h.2.1) (aA D) ⟨T.setVm vm₁, locs, k, n⟩ a v B ∧
      ∀ target, Steps p.tables e below (B.U.setTop { g with pc := g.pc + len, stack := v.toList ++ rest }) target → Steps p.tables e below (T.setTop g) target) ∨
  (∃ (q : Addr) (vm₁ : Vm) (B : Pt), s.WarmedH vm₁ ∧ Stand p l e R s m args below meth c B.U B.locs B.cells B.slots ∧ vx_Post (aXC D h res) (res.2.1 - h.1) (res.2.2.1 - h.2.1) (aA D) ⟨T.setVm vm₁, locs, k, n⟩ a q B ∧
      Steps p.tables e below (T.setTop g) ((B.U.setTop { g with stack := rest }).pushFrame (.throwing q)))
/-- a call that comes back -/
theorem v_ofD {h2 : aH} {r : Option Value} {rest : List Value} {a : Array Value} {len : Nat}
    (hd : ∀ (H : Heap) (locs : List Loc) (k n : Nat) (ls : Array Slot), aRel D h H → aOld D H → s.heap.size ≤ H.size → k + n0 ≤ h.1 → n + s0 ≤ h.2.1 → ls.size = c.maxLocals → ∀ T : State, T.heap = H → Stand p l e R s m args below meth c T locs k n → aDisj p l e R s m args below meth c D h (.inr r, h2) T locs k n (F0 m pc ls st) rest a len)
    (kk : V p l e R s m args below meth c D n0 s0 Q h2 (pc + len) lv (r.toList ++ rest)) : V p l e R s m args below meth c D n0 s0 Q h pc lv st := by
  intro H locs k n ls h1 h2' h3 h4 h5 h6 h7 T hT X
  rcases hd H locs k n ls h1 h2' h3 h5 h6 h7.1.1 T hT X with ⟨v, vm₁, ⟨U', l2, c2, s2⟩, hW₁, X', ⟨g', mk, t, L, e1, e2, ⟨r', hr', ho, w1, w2, w3, w4, w5⟩, d1, hL, d2, d3⟩, stp⟩ | ⟨q, vm₁, ⟨U', l2, c2, s2⟩, hW₁, X', ⟨g', mk, t, L, E, ce, e1, e2, ⟨ek, hek, -⟩, -⟩, stp⟩
  · dsimp only [Pt.U, Pt.locs, Pt.cells, Pt.slots] at X' e1 e2 d1 d2 d3 stp w1 w4 w5 hr'
    cases hr'
    cases ho
    subst d1; subst d2; subst d3
    have w3' : H.size ≤ t.heap.size := by rw [← hT]; exact w3
    have hsz := h1.1
    obtain ⟨t2, a1, b1⟩ := kk t.heap (locs ++ L) (k + (h2.1 - h.1)) (n + (h2.2.1 - h.2.1)) ls w1 w2 (Nat.le_trans h3 w3') (fun z hz => by
      rcases List.mem_append.mp hz with hz | hz
      · exact h4 z hz
      · exact hL z hz) (by omega) (by omega) h7 U' e1 X'
    exact ⟨t2, stp t2 a1, b1⟩
  · cases hek
/-- a call that throws, where nothing catches -/
theorem v_ofDx (C : aC p l R s m meth c D n0 s0 own cc rf rl nL) {h0 h2 : aH} {ek : Nat} {rest : List Value} {a : Array Value} {len : Nat} {res : aRes} (hn0 : n0 = h0.1) (hs0 : s0 = h0.2.1) (hres : res = (.inl ek, h2)) (hx : ∀ x ∈ c.exceptionTable.toList, False)
    (hd : ∀ (H : Heap) (locs : List Loc) (k n : Nat) (ls : Array Slot), aRel D h H → aOld D H → s.heap.size ≤ H.size → k + n0 ≤ h.1 → n + s0 ≤ h.2.1 → ls.size = c.maxLocals → ∀ T : State, T.heap = H → Stand p l e R s m args below meth c T locs k n → aDisj p l e R s m args below meth c D h (.inl ek, h2) T locs k n (F0 m pc ls st) rest a len) :
    V p l e R s m args below meth c D n0 s0 (aEnd D below args s h0 res) h pc lv st := by
  intro H locs k n ls h1 h2' h3 h4 h5 h6 h7 T hT X
  rcases hd H locs k n ls h1 h2' h3 h5 h6 h7.1.1 T hT X with ⟨v, vm₁, ⟨U', l2, c2, s2⟩, hW₁, X', ⟨g', mk, t, L, e1, e2, ⟨r', hr', -⟩, -⟩, stp⟩ | ⟨q, vm₁, ⟨U', l2, c2, s2⟩, hW₁, X', ⟨g', mk, t, L, E, ce, e1, e2, ⟨ek', hek, hE, w1, w2, w3, w4, w5, w6⟩, hce, hcv, hcl, d1, hL, d2, d3⟩, stp⟩
  · cases hr'
  · subst hres
    dsimp only [Pt.U, Pt.locs, Pt.cells, Pt.slots] at X' e1 e2 d1 d2 d3 stp w1 w4 w5 hek hcl
    cases hek
    subst d1; subst d2; subst d3
    have w3' : H.size ≤ t.heap.size := by rw [← hT]; exact w3
    have hsz := h1.1
    have hcl' : s.vm.findClass E = some ce.cls := vx_cls (T := T) hW₁ hcl
    obtain ⟨t2, a1, b1⟩ := vx_out (H := t.heap) (E := E) (ce := ce) (q := q) (pc := pc) (ls := ls) (rest := rest) (below := below) (Qc := aQc D h0 (.inl ek, h2)) (XC := aXC D h0 (.inl ek, h2)) (free := aA D) (mc := h2.1 - h0.1) (ms := h2.2.1 - h0.2.1) (fun x hx9 => (hx x hx9).elim) C.2.2.2.2.1 hce hcv hcl' (fun t9 ht9 _ => ⟨ek, rfl, hE, by rw [ht9]; exact w1, by rw [ht9]; exact w2, by rw [ht9]; exact Nat.le_trans h3 w3', by show h0.1 ≤ h2.1; omega, by show h0.2.1 ≤ h2.2.1; omega, by rw [ht9]; exact w6⟩) (fun z hz => by
      rcases List.mem_append.mp hz with hz | hz
      · exact h4 z hz
      · exact hL z hz) (by show k + (h2.1 - h.1) ≤ h2.1 - h0.1; omega) (by show n + (h2.2.1 - h.2.1) ≤ h2.2.1 - h0.2.1; omega) U' e1 X'
    exact ⟨t2, stp.trans a1, b1⟩
/-- the callee's premise out of its contract -/
theorem aK_ (C : aC p l R s m meth c D n0 s0 own cc rf rl nL) {y : MethodName} {cc' : ByteArray} {maxL' n9 : Nat} {ret' : Option FieldType} {rf' rl' len : Nat} {as : List Value} {res : aRes} (hY : aY y cc' maxL' ret' n9) (hM : aM l D y cc' maxL' ret' rf' rl' as h res) (h1 : rf' + 1 ≤ rf) (h2 : 8 + (maxL' + 11) + rl' ≤ rl) :
    vx_Back l R p e below s args y len 8 (fun A a => A.cells + (D.2.1 - h.1) ≤ R.cells ∧ A.slots + (D.2.2.1 - h.2.1) ≤ R.slots ∧ aPc D as h a A.U) (PostOf (aQc D h res) (res.2.1 - h.1) (res.2.2.1 - h.2.1) (aA D)) (vx_Post (aXC D h res) (res.2.1 - h.1) (res.2.2.1 - h.2.1) (aA D)) := by
  have hT := C.2.2.2.1.1
  refine aBack (bytes := cc') (maxL := maxL') (ret := ret') hM aPc.blind (Nat.le_trans h1 C.2.2.2.2.2.1) (Nat.le_trans h2 C.2.2.2.2.2.2.1) (fun w hw a' U hW => ?_) List.mem_cons_self (fun a' U hW => (hT.moved hW).use (g_all hY.2.1))
  rw [List.mem_singleton.mp hw]
  exact (hT.moved hW).use (g_all hY.1)
/-- .. and its start -/
theorem aStart (C : aC p l R s m meth c D n0 s0 own cc rf rl nL) {H : Heap} {k n : Nat} {as : List Value} (h1 : aRel D h H) (h2 : aOld D H) (h5 : k + n0 ≤ h.1) (h6 : n + s0 ≤ h.2.1) {T : State} (hT : T.heap = H) {vm₁ : Vm} (hW : s.WarmedH vm₁) :
    (k + (D.2.1 - h.1) ≤ R.cells ∧ n + (D.2.2.1 - h.2.1) ≤ R.slots ∧ aPc D as h as.toArray (T.setVm vm₁)) := by
  have g1 := C.2.2.2.2.2.2.2.1
  have g2 := C.2.2.2.2.2.2.2.2.1
  have q1 := h1.2.1
  have q2 := h1.2.2.1
  exact ⟨by omega, by omega, rfl, C.2.2.2.1.moved (U := T.setVm vm₁) hW, by rw [show (T.setVm vm₁).heap = H from hT]; exact h2, by rw [show (T.setVm vm₁).heap = H from hT]; exact h1⟩
theorem aRestW {rest : List Value} (h : (rest.map fun v => v.category).sum ≤ 8) {ls : Array Slot} {sts : List Value} : 2 * (F0 m pc ls sts).monitorRoom + (rest.map fun v => v.category).sum ≤ 8 := by
  show 2 * 0 + _ ≤ 8
  omega
theorem d_V (C : aC p l R s m meth c D n0 s0 own cc rf rl nL) {index : Nat} {y : MethodName} {cc' : ByteArray} {maxL' n9 : Nat} {ret' : Option FieldType} {rf' rl' : Nat} {As rest : List Value} {res : aRes} {t b : Nat} {nm : String} {r9 : Option Nat} {fs9 : List Value} (hr9 : r9 = some b) (hb9 : h.2.2 b = some (t, fs9)) (hnm : aNmT t nm) (hl : Cond.methodLink own index y ∈ lw_all) (hi : aYi y nm) (hY : aY y cc' maxL' ret' n9) (hn : As.length = n9) (h9 : rf' + 1 ≤ rf) (h8 : 8 + (maxL' + 11) + rl' ≤ rl) (hw : (rest.map fun v => v.category).sum ≤ 8) (hst : As.reverse ++ va_rf r9 :: rest = st) (hM : aM l D y cc' maxL' ret' rf' rl' (va_rf r9 :: As) h res) (d : decode cc pc = .ok (.invokevirtual index, 3)) : ∀ (H : Heap) (locs : List Loc) (k n : Nat) (ls : Array Slot), aRel D h H → aOld D H → s.heap.size ≤ H.size → k + n0 ≤ h.1 → n + s0 ≤ h.2.1 → ls.size = c.maxLocals → ∀ T : State, T.heap = H → Stand p l e R s m args below meth c T locs k n → aDisj p l e R s m args below meth c D h res T locs k n (F0 m pc ls st) rest (va_rf r9 :: As : List Value).toArray 3 := by
  intro H locs k n ls h1 h2 h3 h5 h6 h7 T hT X
  have hG := C.2.2.2.1.1
  subst hst
  subst hr9
  obtain ⟨cellB, c1, c2, c3⟩ := (h1.2.2.2 b _ hb9).recv C.2.2.2.1 hnm
  exact vx_callV X C.1 (C := nm) C.2.2.1 (hG.use (g_all hl)) (hG.use (g_all hi.1)) (hG.use (g_all hi.2)) (hG.use (g_all hY.1)) hY.2.2.1 (aK_ C hY hM h9 h8) (by rw [hT]; exact c1) c2 c3 rfl h7 (argsL := As) (rest := rest) (fun sig h => hn.trans (hY.len sig h)) rfl (aRestW hw) (by rw [C.2.1]; exact d) (fun vm₁ hW₁ => aStart C h1 h2 h5 h6 hT hW₁)
theorem d_VN (C : aC p l R s m meth c D n0 s0 own cc rf rl nL) {index : Nat} {host : String} {y : MethodName} {cc' : ByteArray} {maxL' n9 : Nat} {ret' : Option FieldType} {rf' rl' : Nat} {As rest : List Value} {res : aRes} {t b : Nat} {nm : String} {r9 : Option Nat} {fs9 : List Value} (hr9 : r9 = some b) (hb9 : h.2.2 b = some (t, fs9)) (hnm : aNmT t nm) (hl : Cond.methodLinkNest own index y host ∈ lw_tbl) (hi : aYi y nm) (hY : aY y cc' maxL' ret' n9) (hn : As.length = n9) (h9 : rf' + 1 ≤ rf) (h8 : 8 + (maxL' + 11) + rl' ≤ rl) (hw : (rest.map fun v => v.category).sum ≤ 8) (hst : As.reverse ++ va_rf r9 :: rest = st) (hM : aM l D y cc' maxL' ret' rf' rl' (va_rf r9 :: As) h res) (d : decode cc pc = .ok (.invokevirtual index, 3)) : ∀ (H : Heap) (locs : List Loc) (k n : Nat) (ls : Array Slot), aRel D h H → aOld D H → s.heap.size ≤ H.size → k + n0 ≤ h.1 → n + s0 ≤ h.2.1 → ls.size = c.maxLocals → ∀ T : State, T.heap = H → Stand p l e R s m args below meth c T locs k n → aDisj p l e R s m args below meth c D h res T locs k n (F0 m pc ls st) rest (va_rf r9 :: As : List Value).toArray 3 := by
  intro H locs k n ls h1 h2 h3 h5 h6 h7 T hT X
  have hG := C.2.2.2.1.1
  subst hst
  subst hr9
  obtain ⟨cellB, c1, c2, c3⟩ := (h1.2.2.2 b _ hb9).recv C.2.2.2.1 hnm
  exact vx_callVN X C.1 (C := nm) C.2.2.1 (gN hl rfl hG) (hG.use (g_all hi.1)) (hG.use (g_all hi.2)) (hG.use (g_all hY.1)) hY.2.2.1 (aK_ C hY hM h9 h8) (by rw [hT]; exact c1) c2 c3 rfl h7 (argsL := As) (rest := rest) (fun sig h => hn.trans (hY.len sig h)) rfl (aRestW hw) (by rw [C.2.1]; exact d) (fun vm₁ hW₁ => aStart C h1 h2 h5 h6 hT hW₁)
theorem d_S (C : aC p l R s m meth c D n0 s0 own cc rf rl nL) {index : Nat} {y : MethodName} {cc' : ByteArray} {maxL' n9 : Nat} {ret' : Option FieldType} {rf' rl' : Nat} {As rest : List Value} {res : aRes}  (hl : Cond.methodLink own index y ∈ lw_all) (hi : Cond.static y ∈ lw_all) (hY : aY y cc' maxL' ret' n9) (hn : As.length = n9) (h9 : rf' + 1 ≤ rf) (h8 : 8 + (maxL' + 11) + rl' ≤ rl) (hw : (rest.map fun v => v.category).sum ≤ 8) (hst : As.reverse ++ rest = st) (hM : aM l D y cc' maxL' ret' rf' rl' (As) h res) (d : decode cc pc = .ok (.invokestatic index, 3)) : ∀ (H : Heap) (locs : List Loc) (k n : Nat) (ls : Array Slot), aRel D h H → aOld D H → s.heap.size ≤ H.size → k + n0 ≤ h.1 → n + s0 ≤ h.2.1 → ls.size = c.maxLocals → ∀ T : State, T.heap = H → Stand p l e R s m args below meth c T locs k n → aDisj p l e R s m args below meth c D h res T locs k n (F0 m pc ls st) rest (As : List Value).toArray 3 := by
  intro H locs k n ls h1 h2 h3 h5 h6 h7 T hT X
  have hG := C.2.2.2.1.1
  subst hst
  exact vx_callS X C.1 C.2.2.1 (hG.use (g_all hl)) (hG.use (g_all hi)) (hG.use (g_all hY.2.1)) (hG.use (g_all hY.1)) hY.2.2.1 (aK_ C hY hM h9 h8) rfl h7 (argsL := As) (rest := rest) (fun sig h => hn.trans (hY.len sig h)) rfl (aRestW hw) (by rw [C.2.1]; exact d) (fun vm₁ hW₁ => aStart C h1 h2 h5 h6 hT hW₁)
theorem d_SN (C : aC p l R s m meth c D n0 s0 own cc rf rl nL) {index : Nat} {host : String} {y : MethodName} {cc' : ByteArray} {maxL' n9 : Nat} {ret' : Option FieldType} {rf' rl' : Nat} {As rest : List Value} {res : aRes}  (hl : Cond.methodLinkNest own index y host ∈ lw_tbl) (hi : Cond.static y ∈ lw_all) (hY : aY y cc' maxL' ret' n9) (hn : As.length = n9) (h9 : rf' + 1 ≤ rf) (h8 : 8 + (maxL' + 11) + rl' ≤ rl) (hw : (rest.map fun v => v.category).sum ≤ 8) (hst : As.reverse ++ rest = st) (hM : aM l D y cc' maxL' ret' rf' rl' (As) h res) (d : decode cc pc = .ok (.invokestatic index, 3)) : ∀ (H : Heap) (locs : List Loc) (k n : Nat) (ls : Array Slot), aRel D h H → aOld D H → s.heap.size ≤ H.size → k + n0 ≤ h.1 → n + s0 ≤ h.2.1 → ls.size = c.maxLocals → ∀ T : State, T.heap = H → Stand p l e R s m args below meth c T locs k n → aDisj p l e R s m args below meth c D h res T locs k n (F0 m pc ls st) rest (As : List Value).toArray 3 := by
  intro H locs k n ls h1 h2 h3 h5 h6 h7 T hT X
  have hG := C.2.2.2.1.1
  subst hst
  exact vx_callSN X C.1 C.2.2.1 (gN hl rfl hG) (hG.use (g_all hi)) (hG.use (g_all hY.2.1)) (hG.use (g_all hY.1)) hY.2.2.1 (aK_ C hY hM h9 h8) rfl h7 (argsL := As) (rest := rest) (fun sig h => hn.trans (hY.len sig h)) rfl (aRestW hw) (by rw [C.2.1]; exact d) (fun vm₁ hW₁ => aStart C h1 h2 h5 h6 hT hW₁)
theorem d_I (C : aC p l R s m meth c D n0 s0 own cc rf rl nL) {index : Nat} {b : Nat} {r9 : Option Nat} {y : MethodName} {cc' : ByteArray} {maxL' n9 : Nat} {ret' : Option FieldType} {rf' rl' : Nat} {As rest : List Value} {res : aRes} (hr9 : r9 = some b) (hret : ret' = none) (hy1 : y.name = "<init>") (hl : Cond.methodLink own index y ∈ lw_all) (hi : Cond.instanceMethod y ∈ lw_all) (hY : aY y cc' maxL' ret' n9) (hn : As.length = n9) (h9 : rf' + 1 ≤ rf) (h8 : 8 + (maxL' + 11) + rl' ≤ rl) (hw : (rest.map fun v => v.category).sum ≤ 8) (hst : As.reverse ++ va_rf r9 :: rest = st) (hM : aM l D y cc' maxL' ret' rf' rl' (va_rf r9 :: As) h res) (d : decode cc pc = .ok (.invokespecial index, 3)) : ∀ (H : Heap) (locs : List Loc) (k n : Nat) (ls : Array Slot), aRel D h H → aOld D H → s.heap.size ≤ H.size → k + n0 ≤ h.1 → n + s0 ≤ h.2.1 → ls.size = c.maxLocals → ∀ T : State, T.heap = H → Stand p l e R s m args below meth c T locs k n → aDisj p l e R s m args below meth c D h res T locs k n (F0 m pc ls st) rest (va_rf r9 :: As : List Value).toArray 3 := by
  intro H locs k n ls h1 h2 h3 h5 h6 h7 T hT X
  have hG := C.2.2.2.1.1
  subst hst
  subst hr9
  subst hret
  exact vx_callI X C.1 C.2.2.1 hy1 (hG.use (g_all hl)) (hG.use (g_all hi)) (hG.use (g_all hY.1)) hY.2.2.1 (aK_ C hY hM h9 h8) rfl h7 (a := b) (argsL := As) (rest := rest) (fun sig h => hn.trans (hY.len sig h)) rfl (aRestW hw) (by rw [C.2.1]; exact d) (fun vm₁ hW₁ => aStart C h1 h2 h5 h6 hT hW₁)
theorem d_IN (C : aC p l R s m meth c D n0 s0 own cc rf rl nL) {index : Nat} {host : String} {b : Nat} {r9 : Option Nat} {y : MethodName} {cc' : ByteArray} {maxL' n9 : Nat} {ret' : Option FieldType} {rf' rl' : Nat} {As rest : List Value} {res : aRes} (hr9 : r9 = some b) (hret : ret' = none) (hy1 : y.name = "<init>") (hl : Cond.methodLinkNest own index y host ∈ lw_tbl) (hi : Cond.instanceMethod y ∈ lw_all) (hY : aY y cc' maxL' ret' n9) (hn : As.length = n9) (h9 : rf' + 1 ≤ rf) (h8 : 8 + (maxL' + 11) + rl' ≤ rl) (hw : (rest.map fun v => v.category).sum ≤ 8) (hst : As.reverse ++ va_rf r9 :: rest = st) (hM : aM l D y cc' maxL' ret' rf' rl' (va_rf r9 :: As) h res) (d : decode cc pc = .ok (.invokespecial index, 3)) : ∀ (H : Heap) (locs : List Loc) (k n : Nat) (ls : Array Slot), aRel D h H → aOld D H → s.heap.size ≤ H.size → k + n0 ≤ h.1 → n + s0 ≤ h.2.1 → ls.size = c.maxLocals → ∀ T : State, T.heap = H → Stand p l e R s m args below meth c T locs k n → aDisj p l e R s m args below meth c D h res T locs k n (F0 m pc ls st) rest (va_rf r9 :: As : List Value).toArray 3 := by
  intro H locs k n ls h1 h2 h3 h5 h6 h7 T hT X
  have hG := C.2.2.2.1.1
  subst hst
  subst hr9
  subst hret
  exact vx_callIN X C.1 C.2.2.1 hy1 (gN hl rfl hG) (hG.use (g_all hi)) (hG.use (g_all hY.1)) hY.2.2.1 (aK_ C hY hM h9 h8) rfl h7 (a := b) (argsL := As) (rest := rest) (fun sig h => hn.trans (hY.len sig h)) rfl (aRestW hw) (by rw [C.2.1]; exact d) (fun vm₁ hW₁ => aStart C h1 h2 h5 h6 hT hW₁)
theorem d_U (C : aC p l R s m meth c D n0 s0 own cc rf rl nL) {index : Nat} {x : MethodName} {owner : String} {y : MethodName} {cc' : ByteArray} {maxL' n9 : Nat} {ret' : Option FieldType} {rf' rl' : Nat} {As rest : List Value} {res : aRes} {t b : Nat} {nm : String} {r9 : Option Nat} {fs9 : List Value} (hr9 : r9 = some b) (hb9 : h.2.2 b = some (t, fs9)) (hnm : aNmT t nm) (hl : Cond.methodLink own index x ∈ lw_all) (hsm : Cond.sameMethod x.cls owner x.name x.desc ∈ lw_all) (hdc : ∀ s : State, gT s → va_Decl s ⟨owner, x.name, x.desc⟩) (how : owner ≠ "java/lang/invoke/MethodHandle" ∧ owner ≠ "java/lang/invoke/VarHandle") (hse : Cond.selects nm x y ∈ lw_all) (hi : Cond.instanceMethod y ∈ lw_all) (hln : (parseMethodDescriptor x.desc).map (fun d => d.parameters.length) = some n9) (hY : aY y cc' maxL' ret' n9) (hn : As.length = n9) (h9 : rf' + 1 ≤ rf) (h8 : 8 + (maxL' + 11) + rl' ≤ rl) (hw : (rest.map fun v => v.category).sum ≤ 8) (hst : As.reverse ++ va_rf r9 :: rest = st) (hM : aM l D y cc' maxL' ret' rf' rl' (va_rf r9 :: As) h res) (d : decode cc pc = .ok (.invokevirtual index, 3)) : ∀ (H : Heap) (locs : List Loc) (k n : Nat) (ls : Array Slot), aRel D h H → aOld D H → s.heap.size ≤ H.size → k + n0 ≤ h.1 → n + s0 ≤ h.2.1 → ls.size = c.maxLocals → ∀ T : State, T.heap = H → Stand p l e R s m args below meth c T locs k n → aDisj p l e R s m args below meth c D h res T locs k n (F0 m pc ls st) rest (va_rf r9 :: As : List Value).toArray 3 := by
  intro H locs k n ls h1 h2 h3 h5 h6 h7 T hT X
  have hG := C.2.2.2.1.1
  subst hst
  subst hr9
  obtain ⟨cellB, c1, c2, c3⟩ := (h1.2.2.2 b _ hb9).recv C.2.2.2.1 hnm
  exact vx_callVU X C.1 (C := nm) C.2.2.1 (hG.use (g_all hl)) (hG.use (g_all hsm)) (hdc s hG) how (hG.use (g_all hse)) (hG.use (g_all hi)) (hG.use (g_all hY.1)) (aK_ C hY hM h9 h8) (by rw [hT]; exact c1) c2 c3 rfl h7 (argsL := As) (rest := rest) (fun sig h => by rw [h] at hln; exact hn.trans (Option.some.inj hln).symm) rfl (aRestW hw) (by rw [C.2.1]; exact d) (fun vm₁ hW₁ => aStart C h1 h2 h5 h6 hT hW₁)
theorem d_F (C : aC p l R s m meth c D n0 s0 own cc rf rl nL) {index count : Nat} {x : MethodName} {y : MethodName} {cc' : ByteArray} {maxL' n9 : Nat} {ret' : Option FieldType} {rf' rl' : Nat} {As rest : List Value} {res : aRes} {t b : Nat} {nm : String} {r9 : Option Nat} {fs9 : List Value} (hr9 : r9 = some b) (hb9 : h.2.2 b = some (t, fs9)) (hnm : aNmT t nm) (hl : Cond.methodLink own index x ∈ lw_all) (hdc : Cond.declares x ∈ lw_tbl) (hfc : Cond.interfaceMethod x.cls x.cls x.name x.desc ∈ lw_tbl ∧ (x.cls ≠ "java/lang/invoke/MethodHandle" ∧ x.cls ≠ "java/lang/invoke/VarHandle")) (hse : Cond.selects nm x y ∈ lw_all) (hi : Cond.instanceMethod y ∈ lw_all) (hpu : Cond.publicMethod y ∈ lw_tbl) (hun : Cond.unhidden nm x.name x.desc ∈ lw_tbl) (hca : Cond.castable nm x.cls ∈ lw_tbl) (hln : (parseMethodDescriptor x.desc).map (fun d => d.parameters.length) = some n9) (hY : aY y cc' maxL' ret' n9) (hn : As.length = n9) (h9 : rf' + 1 ≤ rf) (h8 : 8 + (maxL' + 11) + rl' ≤ rl) (hw : (rest.map fun v => v.category).sum ≤ 8) (hst : As.reverse ++ va_rf r9 :: rest = st) (hM : aM l D y cc' maxL' ret' rf' rl' (va_rf r9 :: As) h res) (d : decode cc pc = .ok (.invokeinterface index count, 5)) : ∀ (H : Heap) (locs : List Loc) (k n : Nat) (ls : Array Slot), aRel D h H → aOld D H → s.heap.size ≤ H.size → k + n0 ≤ h.1 → n + s0 ≤ h.2.1 → ls.size = c.maxLocals → ∀ T : State, T.heap = H → Stand p l e R s m args below meth c T locs k n → aDisj p l e R s m args below meth c D h res T locs k n (F0 m pc ls st) rest (va_rf r9 :: As : List Value).toArray 5 := by
  intro H locs k n ls h1 h2 h3 h5 h6 h7 T hT X
  have hG := C.2.2.2.1.1
  subst hst
  subst hr9
  obtain ⟨cellB, c1, c2, c3⟩ := (h1.2.2.2 b _ hb9).recv C.2.2.2.1 hnm
  obtain ⟨kB, hkB⟩ := (hnm.cls C.2.2.2.1).2
  have c4 := Option.some.inj ((hnm.cls C.2.2.2.1).1.symm.trans c3)
  exact vx_callIF X C.1 (C := nm) C.2.2.1 (hG.use (g_all hl)) (gN hdc rfl hG) (gN hfc.1 (by simp [gOk, hfc.2.1, hfc.2.2]) hG) (hG.use (g_all hse)) (hG.use (g_all hi)) (gN hpu rfl hG) (gN hun rfl hG) (gN hca rfl hG) (hG.use (g_all hY.1)) hfc.2 (aK_ C hY hM h9 h8) (by rw [hT]; exact c1) c2 c3 (by rw [← c4]; exact hkB) rfl h7 (argsL := As) (rest := rest) (fun sig h => by rw [h] at hln; exact hn.trans (Option.some.inj hln).symm) rfl (aRestW hw) (by rw [C.2.1]; exact d) (fun vm₁ hW₁ => aStart C h1 h2 h5 h6 hT hW₁)
end ACL
