/-! ===== the law: calls of its wrappers ===== -/
set_option maxRecDepth 100000
def R_law0 : String := "FigureSurveyLaw"
section ABackW
variable {l : Launch} {R : Room} {p : Program} {e : Env} {below : List Frame} {s : State} {sargs : Array Value} {y : MethodName} {len W9 : Nat}
theorem aBackW {ws : List Cond} {rm : Room} {Pc : Array Value → State → Prop} {Qc : Array Value → State → Outcome → State → Prop} {XC : String → State → State → Prop} {mc ms : Nat} {free : Addr → Prop} {bytes : ByteArray} {maxL : Nat} {ret : Option FieldType} {hh : List (Nat × Nat × Nat × Nat)}
    (hM : vx_Met l y ws rm Pc Qc XC mc ms free) (hblind : FrameBlind Pc)
    (hframes : rm.frames + 1 ≤ R.frames) (hlocals : W9 + (maxL + 11) + rm.locals ≤ R.locals)
    (hws : ∀ w ∈ ws, ∀ a' U, s.WarmedH U.vm → w.before a' U = true) (hcode : Cond.codeWith y bytes maxL ret hh ∈ ws) (hinit : ∀ a' U, s.WarmedH U.vm → (Cond.initialized y.cls).before a' U = true) :
    vx_Back l R p e below s sargs y len W9 (fun A a => A.cells + rm.cells ≤ R.cells ∧ A.slots + rm.slots ≤ R.slots ∧ Pc a A.U) (PostOf Qc mc ms free) (vx_Post XC mc ms free) := by
  intro m meth c A g ig mk a X hg hsize hdg hW hn hp
  have h1 : (headSpec ws rm).pre.before a A.U = true := atoms_intro fun w hw => hws w hw _ _ X.warmed
  have h2 : (Cond.codeWith y bytes maxL ret hh).before a A.U = true := hws _ hcode _ _ X.warmed
  have h3 : (Cond.initialized y.cls).before a A.U = true := hinit _ _ X.warmed
  have h4 : A.cells + (headSpec ws rm).room.cells ≤ R.cells := hp.1
  have h5 : A.slots + (headSpec ws rm).room.slots ≤ R.slots := hp.2.1
  have hPc : Pc a (A.U.calling g mk a) := hblind _ _ _ _ hp.2.2
  obtain ⟨U, Ls, c0, s0⟩ := A
  dsimp only [Pt.U, Pt.locs, Pt.cells, Pt.slots] at h1 h2 h3 h4 h5 X hn hPc ⊢
  obtain ⟨m9, methY, cY, hn9, hmY, hcY, -, hlY, -⟩ := Cond.codeWith_spec h2
  cases hn.symm.trans hn9
  obtain ⟨kY, hkY, -⟩ := className_of_methodNamed hn
  have hinitY : kY.init = .initialized := Cond.initialized_spec (findClass_of_methodNamed hn) hkY h3
  have h : At U g.method c below := by rw [hg]; exact X.here
  have hlocals9 : W9 + (maxL + 11) + (headSpec ws rm).room.locals ≤ R.locals := hlocals
  have happ : (headSpec ws rm).appliesLoose y e.platform (U.calling g mk a) = true :=
    Spec.appliesLoose_calling (g := g) h hdg hn hkY hinitY
      (X.room_calling (g := g) (R' := (headSpec ws rm).room) hsize hmY hcY hframes (by rw [hlY]; omega) h4 h5) h1
  obtain ⟨mid, hmid⟩ := h.above
  have hfr : (U.setTop g).frames = (.java g :: mid) ++ below := by rw [State.frames_setTop' g h.top, hmid]; rfl
  obtain ⟨o, s₂, hsteps, -, hend, hq⟩ := Steps.callFree hM p X.admits X.cas X.clock (acts := []) hfr happ hPc trivial
  have hq' : vx_Q Qc XC mc ms free a (U.calling g mk a) o s₂ := hq
  rw [State.frames_setTop' g h.top] at hend
  obtain ⟨g₀, hg0⟩ := Option.isSome_iff_exists.mp h.top
  obtain ⟨r, hr⟩ := State.topJava?_eq_some.mp hg0
  have hr' : (({ U with heap := s₂.heap, slotsUsed := s₂.slotsUsed } : State).setVm s₂.vm).frames = .java g₀ :: r := hr
  rcases hq' with ⟨hqc, L, hfe, hL⟩ | ⟨q, rfl, E, ce, L, hx, hce, hcv, hcl, hW₂, hsm, hL⟩
  · obtain ⟨⟨v, rfl⟩, hW₂, e2, q2, q3, q4, q5, q6⟩ := id hfe
    have e3 : s₂ = ({ (U.calling g mk a).setFrames s₂.frames with heap := s₂.heap, slotsUsed := s₂.slotsUsed } : State).setVm s₂.vm := by
      have : s₂ = ({ s₂ with vm := (U.calling g mk a).vm } : State).setVm s₂.vm := rfl
      rw [e2] at this
      exact this
    obtain ⟨c₂, i₂, len₂, hc₂, hd₂, hf₂⟩ := hend
    have hW' : U.WarmedH s₂.vm := hW₂
    have hcc : c₂ = c := by
      have h1 : s₂.code? g.method = U.code? g.method := by
        rw [State.code?_eq, State.code?_eq, hW'.alike.method?]
      exact Option.some.inj (hc₂.symm.trans (h1.trans h.code))
    subst hcc
    have hlen : len₂ = len := by rw [hdg] at hd₂; cases hd₂; rfl
    subst hlen
    have hs₂ : s₂ = (({ U with heap := s₂.heap, slotsUsed := s₂.slotsUsed } : State).setVm s₂.vm).setTop { g with pc := g.pc + len₂, stack := v.toList ++ g.stack } := by
      refine e3.trans ?_
      rw [hf₂, State.calling_eq h.top, State.setFrames_setFrames, State.setTop_of_frames _ hr', hr]
      rfl
    have hsame : U.sameButNew ({ U with heap := s₂.heap, slotsUsed := s₂.slotsUsed } : State) L mc ms := by
      refine ⟨?_, q2, q3, q4, q5, q6⟩
      obtain ⟨t, ht, -⟩ := State.frames_cons hr
      show ({ U with heap := s₂.heap, slotsUsed := s₂.slotsUsed } : State) = { U.setFrames U.frames with heap := s₂.heap, slotsUsed := s₂.slotsUsed }
      rw [State.setFrames_self ht]
    subst hg
    refine Or.inl ⟨v, ⟨(({ U with heap := s₂.heap, slotsUsed := s₂.slotsUsed } : State).setVm s₂.vm), Ls ++ L, c0 + mc, s0 + ms⟩,
      ⟨X.admits, X.cas, X.clock, X.frames, X.room, X.hears, X.method, X.code, (X.here.setHeapUsed s₂.heap s₂.slotsUsed).setVm hW'.alike, X.tail, State.WarmedH.trans X.warmed hW', X.limits, X.bytes, X.same.trans (hsame.setVm s.vm)⟩,
      ⟨g, mk, s₂, L, rfl, rfl, hqc, rfl, hL, rfl, rfl⟩, ?_⟩
    show Steps p.tables e below _ ((({ U with heap := s₂.heap, slotsUsed := s₂.slotsUsed } : State).setVm s₂.vm).setTop { g with pc := g.pc + len₂, stack := v.toList ++ g.stack })
    rw [← hs₂]
    exact hsteps
  · obtain ⟨e2, q2, q3, q4, q5, q6⟩ := id hsm
    have e3 : s₂ = ({ (U.calling g mk a).setFrames s₂.frames with heap := s₂.heap, slotsUsed := s₂.slotsUsed } : State).setVm s₂.vm := by
      have : s₂ = ({ s₂ with vm := (U.calling g mk a).vm } : State).setVm s₂.vm := rfl
      rw [e2] at this
      exact this
    have hf₂ : s₂.frames = .throwing q :: .java g :: U.frames.tail := hend
    have hW' : U.WarmedH s₂.vm := hW₂
    have hs₂ : s₂ = ((({ U with heap := s₂.heap, slotsUsed := s₂.slotsUsed } : State).setVm s₂.vm).setTop g).pushFrame (.throwing q) := by
      refine e3.trans ?_
      rw [hf₂, State.calling_eq h.top, State.setFrames_setFrames, State.pushFrame, State.frames_setTop _ hr', State.setTop_of_frames _ hr', State.setFrames_setFrames, hr]
      rfl
    have hsame : U.sameButNew ({ U with heap := s₂.heap, slotsUsed := s₂.slotsUsed } : State) L mc ms := by
      refine ⟨?_, q2, q3, q4, q5, q6⟩
      obtain ⟨t, ht, -⟩ := State.frames_cons hr
      show ({ U with heap := s₂.heap, slotsUsed := s₂.slotsUsed } : State) = { U.setFrames U.frames with heap := s₂.heap, slotsUsed := s₂.slotsUsed }
      rw [State.setFrames_self ht]
    subst hg
    refine Or.inr ⟨q, ⟨(({ U with heap := s₂.heap, slotsUsed := s₂.slotsUsed } : State).setVm s₂.vm), Ls ++ L, c0 + mc, s0 + ms⟩,
      ⟨X.admits, X.cas, X.clock, X.frames, X.room, X.hears, X.method, X.code, (X.here.setHeapUsed s₂.heap s₂.slotsUsed).setVm hW'.alike, X.tail, State.WarmedH.trans X.warmed hW', X.limits, X.bytes, X.same.trans (hsame.setVm s.vm)⟩,
      ⟨g, mk, s₂, L, E, ce, rfl, rfl, hx, hce, hcv, hcl, rfl, hL, rfl, rfl⟩, ?_⟩
    show Steps p.tables e below _ (((({ U with heap := s₂.heap, slotsUsed := s₂.slotsUsed } : State).setVm s₂.vm).setTop g).pushFrame (.throwing q))
    rw [← hs₂]
    exact hsteps
end ABackW
/-! ===== the law's own walk ===== -/
/-- how the ends of the room move where a wrapper has caught something -/
def aStep (D : aD) (h : aH) (D' : aD) (h' : aH) : Prop := D'.1 = D.1 ∧ D'.2.1 + 1 = D.2.1 ∧ D'.2.2 = D.2.2 ∧ h'.2 = h.2 ∧ h.1 ≤ h'.1 + 1 ∧ h'.1 ≤ h.1 + 64
def wB {α : Type} (o : Option α) (f : α → Prop) : Prop := ∃ a, o = some a ∧ f a
def w2 {α β : Type} (o : Option (α × β)) (f : α → β → Prop) : Prop := ∃ a b, o = some (a, b) ∧ f a b
def wCall (D : aD) (h : aH) (f : aD → aH → Prop) : Prop := (h.1 + 65 ≤ D.2.1 ∧ 1200145 ≤ D.2.1 ∧ b0 D + 1200081 ≤ D.2.1) ∧ ∀ D' h', aStep D h D' h' → f D' h'
section ALW
variable {p : Program} {l : Launch} {e : Env} {s : State} {m : MethodId} {args : Array Value} {below : List Frame} {meth : Method} {c : Code} {D : aD} {n0 s0 : Nat} {Q : State → Prop}
variable {own : String} {cc : ByteArray} {rf rl nL : Nat} {h h' : aH} {pc : Nat} {lv : aLv} {st : List Value}
/-- the law's frame -/
def lX (p : Program) (l : Launch) (s : State) (m : MethodId) (meth : Method) (c : Code) (D : aD) (n0 s0 : Nat) (rf rl : Nat) : Prop :=
  aC p l room_1 s m meth c D n0 s0 R_law0 code rf rl 9 ∧ D.2.1 = 1200144 + n0 ∧ D.2.2.1 = 5496250 + s0 ∧ meth.sig.returnType = some .boolean ∧ (∀ x ∈ c.exceptionTable.toList, False) ∧ s.heap.size ≤ n0 + 64 ∧ s.heap.size ≤ b0 D
def lEnd (below : List Frame) (a : Array Value) (s : State) : State → Prop := fun t => ∃ o, t.status = .running ∧ Ended t below o ∧ o = .returned (some (.int 1)) ∧ Jvm.D.Framed s o t [] 1200144 5496250
theorem aC.other {R : Room} {D' : aD} {n0' : Nat} (C : aC p l R s m meth c D n0 s0 own cc rf rl nL) (h1 : D'.1 = D.1) (h2 : D'.2.2 = D.2.2) (h3 : D'.2.1 ≤ R.cells + n0') : aC p l R s m meth c D' n0' s0 own cc rf rl nL := by
  obtain ⟨a1, a2, a3, a4, a5, a6, a7, a8, a9, a10, a11, a12⟩ := C
  obtain ⟨G, cap, rest⟩ := D
  obtain ⟨G', cap', rest'⟩ := D'
  dsimp only at h1 h2
  subst h1; subst h2
  exact ⟨a1, a2, a3, a4, a5, a6, a7, h3, a9, a10, a11, a12⟩
theorem v_wcall {R : Room} (C : aC p l R s m meth c D n0 s0 own cc rf rl nL) {index n9 maxL' rf' rl' : Nat} {y : MethodName} {cc' : ByteArray} {hh : List (Nat × Nat × Nat × Nat)} {As rest : List Value} {x : Int32} {h2 : aH} (hsz : s.heap.size ≤ n0 + 64) (hl : Cond.methodLink own index y ∈ lw_all) (hi : Cond.static y ∈ lw_all) (hcw : Cond.codeWith y cc' maxL' (some .int) hh ∈ lw_all) (hini : Cond.initialized y.cls ∈ lw_all) (hy : y.cls ≠ "java/lang/invoke/MethodHandle" ∧ y.cls ≠ "java/lang/invoke/VarHandle") (hln : (parseMethodDescriptor y.desc).map (fun d => d.parameters.length) = some n9)
    (hn : As.length = n9) (h9 : rf' + 1 ≤ rf) (h8 : 8 + (maxL' + 11) + rl' ≤ rl) (hw : (rest.map fun v => v.category).sum ≤ 8) (hst : As.reverse ++ rest = st) (hM : aMw l D y cc' maxL' hh rf' rl' As h x h2) (d : decode cc pc = .ok (.invokestatic index, 3)) (hb1 : h2.1 + 65 ≤ D.2.1) (hb2 : 1 ≤ n0)
    (k : ∀ D' h', aStep D h2 D' h' → V p l e R s m args below meth c D' (n0 - 1) s0 Q h' (pc + 3) lv (.int x :: rest)) : V p l e R s m args below meth c D n0 s0 Q h pc lv st := by
  intro H locs k' n ls h1 h2' h3 h4 h5 h6 h7 T hT X
  subst hst
  have hG := C.2.2.2.1.1
  have hK : vx_Back l R p e below s args y 3 8 (fun A a => A.cells + (D.2.1 - h.1) ≤ R.cells ∧ A.slots + (D.2.2.1 - h.2.1) ≤ R.slots ∧ aPc D As h a A.U) (PostOf (aQw D h x h2) (h2.1 - h.1) (h2.2.1 - h.2.1) (aA D)) (vx_Post aXf (h2.1 - h.1) (h2.2.1 - h.2.1) (aA D)) := by
    refine aBackW (bytes := cc') (maxL := maxL') (ret := some .int) (hh := hh) hM aPc.blind (Nat.le_trans h9 C.2.2.2.2.2.1) (Nat.le_trans h8 C.2.2.2.2.2.2.1) (fun w hw a' U hW => ?_) List.mem_cons_self (fun a' U hW => (hG.moved hW).use (g_all hini))
    rw [List.mem_singleton.mp hw]
    exact (hG.moved hW).use (g_all hcw)
  rcases vx_callSX X C.1 C.2.2.1 (hG.use (g_all hl)) (hG.use (g_all hi)) (hG.use (g_all hini)) (hG.use (g_all hcw)) hy hK (g := F0 m pc ls (As.reverse ++ rest)) rfl h7.1.1 (argsL := As) (rest := rest) (fun sig hs => by rw [hs] at hln; exact hn.trans (Option.some.inj hln).symm) rfl (aRestW hw) (by rw [C.2.1]; exact d) (fun vm₁ hW₁ => aStart C h1 h2' h5 h6 hT hW₁) with ⟨v, vm₁, ⟨U', l2, c2, s2⟩, hW₁, X', ⟨g', mk, t, L, e1, e2, ⟨ho, ⟨h', w1, w2, w3, w4⟩, w5, w6, w7, w8⟩, d1, hL, d2, d3⟩, stp⟩ | ⟨q, vm₁, ⟨U', l2, c2, s2⟩, hW₁, X', ⟨g', mk, t, L, E, ce, e1, e2, hf, -⟩, stp⟩
  · dsimp only [Pt.U, Pt.locs, Pt.cells, Pt.slots] at X' e1 e2 d1 d2 d3 stp w6
    cases ho
    subst d1; subst d2; subst d3
    have w6' : H.size ≤ t.heap.size := by rw [← hT]; exact w6
    have hsz1 := h1.1
    have hcap := h1.2.1
    have hu := X'.heapSize
    rw [e1] at hu
    have hsame := w4.1
    obtain ⟨t2, a1, b1⟩ := k (D.1, D.2.1 - 1, D.2.2) h' ⟨rfl, by dsimp only; omega, rfl, w1, w2, by omega⟩ t.heap (locs ++ L) (k' + (h2.1 - h.1)) (n + (h2.2.1 - h.2.1)) ls ⟨w4.1, by show h'.1 ≤ D.2.1 - 1; omega, w4.2.2.1, w4.2.2.2⟩ w5 (Nat.le_trans h3 w6') (fun z hz => by
      rcases List.mem_append.mp hz with hz | hz
      · exact h4 z hz
      · exact hL z hz) (by omega) (by rw [w1]; omega) h7 U' e1 X'
    exact ⟨t2, stp t2 a1, b1⟩
  · exact hf.elim
end ALW
