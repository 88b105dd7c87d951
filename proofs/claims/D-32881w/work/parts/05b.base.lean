/-! ===== what holds of the tables all through a run ===== -/
set_option maxRecDepth 100000
abbrev aA (D : aD) : Nat → Prop := fun a => b0 D ≤ a
/-- the statics that are read -/
def aSt : List (String × String × String) := [("java/util/ArrayList", "DEFAULTCAPACITY_EMPTY_ELEMENTDATA", "[Ljava/lang/Object;"), ("java/util/TreeSet", "PRESENT", "Ljava/lang/Object;"), ("java/lang/Integer$IntegerCache", "high", "I"), ("java/lang/Integer$IntegerCache", "cache", "[Ljava/lang/Integer;")]
/-- the texts of the exceptions -/
def aTx : List (String × Nat × String) := [("FigureSurvey", 121, "out of range"), ("FigureSurvey", 135, "not in this state"), ("FigureSurvey", 130, "no such number"), ("FigureSurvey", 126, "not such a one"), ("FigureSurvey", 160, "no such finding")]
def aSite (c : ClassId) (x : MethodName) (pc index : Nat) (σ : Lambda.Shape) (U : State) : Prop :=
  ∃ (m : MethodId) (k : Class) (cf : ClassFile) (i0 p0 : Nat), U.methodNamed? x = some m ∧ U.vm.classes[m.cls]? = some k ∧ k.cf = some cf ∧ Lambda.shapeOf? cf index = some σ ∧ (k.callSites.find? fun y => y.1 == m.idx && y.2.1 == pc) = some (i0, p0, .makes c) ∧ Lambda.isMade { classPath := fun _ => none } U.vm m.cls σ c = true ∧ U.lambdaCallable σ c = true
theorem aSite.moved {s U : State} {c : ClassId} {x : MethodName} {pc index : Nat} {σ : Lambda.Shape} (hW : s.WarmedH U.vm) (h : aSite c x pc index σ s) : aSite c x pc index σ U := by
  obtain ⟨m, k, cf, i0, p0, h1, h2, h3, h4, h5, h6, h7⟩ := h
  obtain ⟨k', hk', he⟩ := hW.alike.2.2 _ _ h2
  have hm' : U.methodNamed? x = some m := by
    have e := State.methodNamed?_setVm (s := s) hW.alike x
    rw [h1] at e
    exact e
  have hc' : U.lambdaCallable σ c = true := by
    have hA := hW.alike
    simp only [State.lambdaCallable, hA.findClass, hA.assignable, hA.superclasses, hA.declaredIn] at h7 ⊢
    exact h7
  exact ⟨m, k', cf, i0, p0, hm', hk', by rw [he]; exact h3, h4, by rw [he]; exact h5, Lambda.isMade_warmer hW h6, hc'⟩
def lsS (w : Cond) : Lambda.Shape := match w with
  | .lambdaSite _ _ _ σ => σ
  | _ => default
/-- the call sites of lambdas, by tags 110.. -/
def aLms : List (MethodName × Nat × Nat × Lambda.Shape) := [(⟨"FigureSurvey", "genuineOn", "(LFigureSurvey$Panel;)I"⟩, 9, 97, lsS siteWord_1_1), (⟨"FigureSurvey$Figure", "doubt", "()I"⟩, 15, 46, lsS siteWord_1_2), (⟨"FigureSurvey", "errors", "()I"⟩, 8, 506, lsS siteWord_1_3), (⟨"FigureSurvey$Scene", "<init>", "(LFigureSurvey;LFigureSurvey$Panel;)V"⟩, 209, 89, lsS siteWord_1_5), (⟨"FigureSurvey$Scene", "<init>", "(LFigureSurvey;LFigureSurvey$Panel;)V"⟩, 329, 123, lsS siteWord_1_6), (⟨"FigureSurvey$Scene", "bestBroken", "(LFigureSurvey$Clash;)I"⟩, 93, 155, lsS siteWord_1_7), (⟨"FigureSurvey$Panel", "seen", "(I)I"⟩, 3, 50, lsS siteWord_1_8), (⟨"FigureSurvey", "addFigure", "(I)I"⟩, 27, 206, lsS siteWord_1_9), (⟨"FigureSurvey", "addEntry", "(II)I"⟩, 36, 398, lsS siteWord_1_10), (⟨"FigureSurvey", "tellDam", "(II)I"⟩, 57, 485, lsS siteWord_1_11)]
def aNm (ty : FieldType) : String := match ty with
  | .object C => C
  | t => t.toString
/-- what the tables say of a kind of array -/
def aKd (U : State) (cA : ClassId) (ty : FieldType) : Prop := ∃ (kA : Class) (comp : ClassId), U.vm.classes[cA]? = some kA ∧ kA.kind = .array comp ty ∧ U.vm.findClass ("[" ++ ty.toString) = some cA ∧ (ty.isReference = true → U.vm.findClass (aNm ty) = some comp)
theorem aKd.moved {s U : State} {cA : ClassId} {ty : FieldType} (hW : s.vm.Alike U.vm) (h : aKd s cA ty) : aKd U cA ty := by
  obtain ⟨kA, comp, h1, h2, h3, h4⟩ := h
  obtain ⟨k', hk', he⟩ := hW.2.2 _ _ h1
  exact ⟨k', comp, hk', by rw [he]; exact h2, by rw [hW.findClass]; exact h3, fun z => by rw [hW.findClass]; exact h4 z⟩
theorem aKd.of {U : State} {cA : ClassId} {ty : FieldType} (h : aKd U cA ty) {cell : Cell} (hc : cell.cls = cA) (hv : cell.vm.isStatics = false) : U.isArrayOf cell ty := by
  obtain ⟨kA, comp, h1, h2, -⟩ := h
  exact ⟨fun q hq => (by rw [hq] at hv; cases hv), kA, by rw [hc]; exact h1, comp, h2⟩
/-- what is no subclass of what is caught -/
def aNc : List (String × String) := [("java/lang/IndexOutOfBoundsException", "java/lang/IllegalArgumentException"), ("java/lang/IndexOutOfBoundsException", "java/lang/IllegalStateException"), ("java/lang/IllegalArgumentException", "java/lang/IndexOutOfBoundsException"), ("java/lang/IllegalArgumentException", "java/lang/IllegalStateException"), ("java/lang/IllegalStateException", "java/lang/IndexOutOfBoundsException"), ("java/lang/IllegalStateException", "java/lang/IllegalArgumentException")]
def aVm (D : aD) (U : State) : Prop :=
  gT U ∧ (∀ (c : Nat) (q : vw_C), aCl[c]? = some q → u_Kn U q.1 q.2.1 q.2.2 (D.1.1 c) (D.1.2 c)) ∧
  (∀ (t : Nat) (ty : FieldType), aTy t = some ty → aKd U (D.1.1 t) ty) ∧
  (∀ (k : Nat) (q : String × String × String), aSt[k]? = some q → va_Z q.1 q.2.1 q.2.2 (D.2.2.2.2 k) (aA D) U D.2.2.2.1) ∧
  (vx_Zq Bundle.tN "UNASSIGNED_STACK" Bundle.steD (aA D) U D.2.2.2.1 ∧ vx_Zq Bundle.tN "SUPPRESSED_SENTINEL" Bundle.listD (aA D) U D.2.2.2.1 ∧ (∀ q ∈ aTx, ∃ sa : Nat, vk_R q.1 q.2.1 q.2.2 sa U) ∧ (∀ q ∈ aNc, va_Nc q.1 q.2 U) ∧ ∃ mi : Nat, D.2.2.2.2 100 = .ref mi ∧ va_Mi "[Ljava/lang/Object;" mi U) ∧
  (∀ (k : Nat) (q : MethodName × Nat × Nat × Lambda.Shape), aLms[k]? = some q → aSite (D.1.1 (110 + k)) q.1 q.2.1 q.2.2.1 q.2.2.2 U)
theorem aVm.moved {D : aD} {s U : State} (hW : s.WarmedH U.vm) (h : aVm D s) : aVm D U := by
  obtain ⟨h1, h2, h3, h4, ⟨h5, h6, h7, hNc, mi, h9, h10⟩, h8⟩ := h
  refine ⟨h1.moved hW, fun c q hq => u_Kn_moved hW.alike (h2 c q hq), fun t ty ht => (h3 t ty ht).moved hW.alike, fun k q hq => va_Z.moved hW.alike (h4 k q hq), ⟨vx_Zq.moved hW.alike h5, vx_Zq.moved hW.alike h6, fun q hq => ?_, fun q hq => va_Nc.moved hW.alike (hNc q hq), mi, h9, va_Mi.moved hW.alike h10⟩, fun k q hq => (h8 k q hq).moved hW⟩
  obtain ⟨sa, hs⟩ := h7 q hq
  exact ⟨sa, hs.warm hW⟩
theorem aVm.K {D : aD} {U : State} (h : aVm D U) : va_K D.1 aCl [] U := ⟨h.2.1, fun k q hk => by simp at hk⟩
theorem aVm.same {D : aD} {s U : State} (h : U.vm = s.vm) (hv : aVm D s) : aVm D U := hv.moved (by rw [h]; exact State.WarmedH.refl s)
/-! ===== contracts ===== -/
/-- the exceptions, by number -/
def aExn : Nat → String := fun k => match k with
  | 1 => "java/lang/IndexOutOfBoundsException"
  | 2 => "java/lang/IllegalArgumentException"
  | _ => "java/lang/IllegalStateException"
abbrev aRes : Type := (Nat ⊕ Option Value) × aH
def aQc (D : aD) (h : aH) (res : aRes) : Array Value → State → Outcome → State → Prop := fun _ st o t => ∃ r, res.1 = .inr r ∧ o = .returned r ∧ aRel D res.2 t.heap ∧ aOld D t.heap ∧ st.heap.size ≤ t.heap.size ∧ h.1 ≤ res.2.1 ∧ h.2.1 ≤ res.2.2.1
def aXC (D : aD) (h : aH) (res : aRes) : String → State → State → Prop := fun E st t => ∃ k, res.1 = .inl k ∧ aExn k = E ∧ aRelW D res.2 t.heap ∧ aOld D t.heap ∧ st.heap.size ≤ t.heap.size ∧ h.1 ≤ res.2.1 ∧ h.2.1 ≤ res.2.2.1 ∧ res.2.1 ≤ t.heap.size + 1
def aPc (D : aD) (as : List Value) (h : aH) : Array Value → State → Prop := fun v U => v = as.toArray ∧ aVm D U ∧ aOld D U.heap ∧ aRel D h U.heap
def aRm (D : aD) (h : aH) (rf rl : Nat) : Room := { frames := rf, cells := D.2.1 - h.1, slots := D.2.2.1 - h.2.1, locals := rl }
/-- the contract: called on as over h, the method ends as res says -/
def aM (l : Launch) (D : aD) (y : MethodName) (cc : ByteArray) (maxL : Nat) (ret : Option FieldType) (rf rl : Nat) (as : List Value) (h : aH) (res : aRes) : Prop :=
  vx_Met l y [Cond.code y cc maxL ret] (aRm D h rf rl) (aPc D as h) (aQc D h res) (aXC D h res) (res.2.1 - h.1) (res.2.2.1 - h.2.1) (aA D)
theorem aPc.blind {D : aD} {as : List Value} {h : aH} : FrameBlind (aPc D as h) := fun a U g mk q => by
  obtain ⟨q1, q2, q3, q4⟩ := q
  exact ⟨q1, aVm.same (s := U) rfl q2, q3, q4⟩
section ABack
variable {l : Launch} {R : Room} {p : Program} {e : Env} {below : List Frame} {s : State} {sargs : Array Value} {y : MethodName} {len W9 : Nat}
theorem aBack {ws : List Cond} {rm : Room} {Pc : Array Value → State → Prop} {Qc : Array Value → State → Outcome → State → Prop} {XC : String → State → State → Prop} {mc ms : Nat} {free : Addr → Prop} {bytes : ByteArray} {maxL : Nat} {ret : Option FieldType}
    (hM : vx_Met l y ws rm Pc Qc XC mc ms free) (hblind : FrameBlind Pc)
    (hframes : rm.frames + 1 ≤ R.frames) (hlocals : W9 + (maxL + 11) + rm.locals ≤ R.locals)
    (hws : ∀ w ∈ ws, ∀ a' U, s.WarmedH U.vm → w.before a' U = true) (hcode : Cond.code y bytes maxL ret ∈ ws) (hinit : ∀ a' U, s.WarmedH U.vm → (Cond.initialized y.cls).before a' U = true) :
    vx_Back l R p e below s sargs y len W9 (fun A a => A.cells + rm.cells ≤ R.cells ∧ A.slots + rm.slots ≤ R.slots ∧ Pc a A.U) (PostOf Qc mc ms free) (vx_Post XC mc ms free) := by
  intro m meth c A g ig mk a X hg hsize hdg hW hn hp
  have h1 : (headSpec ws rm).pre.before a A.U = true := atoms_intro fun w hw => hws w hw _ _ X.warmed
  have h2 : (Cond.code y bytes maxL ret).before a A.U = true := hws _ hcode _ _ X.warmed
  have h3 : (Cond.initialized y.cls).before a A.U = true := hinit _ _ X.warmed
  have h4 : A.cells + (headSpec ws rm).room.cells ≤ R.cells := hp.1
  have h5 : A.slots + (headSpec ws rm).room.slots ≤ R.slots := hp.2.1
  have hPc : Pc a (A.U.calling g mk a) := hblind _ _ _ _ hp.2.2
  obtain ⟨U, Ls, c0, s0⟩ := A
  dsimp only [Pt.U, Pt.locs, Pt.cells, Pt.slots] at h1 h2 h3 h4 h5 X hn hPc ⊢
  obtain ⟨methY, cY, hmY, hcY, -, hlY, -, -, -, -⟩ := Cond.code_spec hn h2
  obtain ⟨kY, hkY, -⟩ := className_of_methodNamed hn
  have hinitY : kY.init = .initialized := Cond.initialized_spec (findClass_of_methodNamed hn) hkY h3
  have h : At U g.method c below := by rw [hg]; exact X.here
  have hlocals9 : W9 + (maxL + 11) + (headSpec ws rm).room.locals ≤ R.locals := hlocals
  have happ : (headSpec ws rm).appliesLoose y e.platform (U.calling g mk a) = true :=
    Spec.appliesLoose_calling (g := g) h hdg hn hkY hinitY
      (X.room_calling (g := g) (R' := (headSpec ws rm).room) hsize hmY hcY hframes (by rw [hlY]; omega) h4 h5) h1
  obtain ⟨mid, hmid⟩ := h.above
  have hfr : (U.setTop g).frames = (.java g :: mid) ++ below := by rw [State.frames_setTop' g h.top, hmid]; rfl
  obtain ⟨o, s₂, hsteps, -, hend, hq⟩ := Steps.callFree hM p X.admits X.cas X.clock (acts := []) hfr happ hPc trivial
  have hq' : vx_Q Qc XC mc ms free a (U.calling g mk a) o s₂ := hq
  rw [State.frames_setTop' g h.top] at hend
  obtain ⟨g₀, hg0⟩ := Option.isSome_iff_exists.mp h.top
  obtain ⟨r, hr⟩ := State.topJava?_eq_some.mp hg0
  have hr' : (({ U with heap := s₂.heap, slotsUsed := s₂.slotsUsed } : State).setVm s₂.vm).frames = .java g₀ :: r := hr
  rcases hq' with ⟨hqc, L, hfe, hL⟩ | ⟨q, rfl, E, ce, L, hx, hce, hcv, hcl, hW₂, hsm, hL⟩
  · obtain ⟨⟨v, rfl⟩, hW₂, e2, q2, q3, q4, q5, q6⟩ := id hfe
    have e3 : s₂ = ({ (U.calling g mk a).setFrames s₂.frames with heap := s₂.heap, slotsUsed := s₂.slotsUsed } : State).setVm s₂.vm := by
      have : s₂ = ({ s₂ with vm := (U.calling g mk a).vm } : State).setVm s₂.vm := rfl
      rw [e2] at this
      exact this
    obtain ⟨c₂, i₂, len₂, hc₂, hd₂, hf₂⟩ := hend
    have hW' : U.WarmedH s₂.vm := hW₂
    have hcc : c₂ = c := by
      have h1 : s₂.code? g.method = U.code? g.method := by
        rw [State.code?_eq, State.code?_eq, hW'.alike.method?]
      exact Option.some.inj (hc₂.symm.trans (h1.trans h.code))
    subst hcc
    have hlen : len₂ = len := by rw [hdg] at hd₂; cases hd₂; rfl
    subst hlen
    have hs₂ : s₂ = (({ U with heap := s₂.heap, slotsUsed := s₂.slotsUsed } : State).setVm s₂.vm).setTop { g with pc := g.pc + len₂, stack := v.toList ++ g.stack } := by
      refine e3.trans ?_
      rw [hf₂, State.calling_eq h.top, State.setFrames_setFrames, State.setTop_of_frames _ hr', hr]
      rfl
    have hsame : U.sameButNew ({ U with heap := s₂.heap, slotsUsed := s₂.slotsUsed } : State) L mc ms := by
      refine ⟨?_, q2, q3, q4, q5, q6⟩
      obtain ⟨t, ht, -⟩ := State.frames_cons hr
      show ({ U with heap := s₂.heap, slotsUsed := s₂.slotsUsed } : State) = { U.setFrames U.frames with heap := s₂.heap, slotsUsed := s₂.slotsUsed }
      rw [State.setFrames_self ht]
    subst hg
    refine Or.inl ⟨v, ⟨(({ U with heap := s₂.heap, slotsUsed := s₂.slotsUsed } : State).setVm s₂.vm), Ls ++ L, c0 + mc, s0 + ms⟩,
      ⟨X.admits, X.cas, X.clock, X.frames, X.room, X.hears, X.method, X.code, (X.here.setHeapUsed s₂.heap s₂.slotsUsed).setVm hW'.alike, X.tail, State.WarmedH.trans X.warmed hW', X.limits, X.bytes, X.same.trans (hsame.setVm s.vm)⟩,
      ⟨g, mk, s₂, L, rfl, rfl, hqc, rfl, hL, rfl, rfl⟩, ?_⟩
    show Steps p.tables e below _ ((({ U with heap := s₂.heap, slotsUsed := s₂.slotsUsed } : State).setVm s₂.vm).setTop { g with pc := g.pc + len₂, stack := v.toList ++ g.stack })
    rw [← hs₂]
    exact hsteps
  · obtain ⟨e2, q2, q3, q4, q5, q6⟩ := id hsm
    have e3 : s₂ = ({ (U.calling g mk a).setFrames s₂.frames with heap := s₂.heap, slotsUsed := s₂.slotsUsed } : State).setVm s₂.vm := by
      have : s₂ = ({ s₂ with vm := (U.calling g mk a).vm } : State).setVm s₂.vm := rfl
      rw [e2] at this
      exact this
    have hf₂ : s₂.frames = .throwing q :: .java g :: U.frames.tail := hend
    have hW' : U.WarmedH s₂.vm := hW₂
    have hs₂ : s₂ = ((({ U with heap := s₂.heap, slotsUsed := s₂.slotsUsed } : State).setVm s₂.vm).setTop g).pushFrame (.throwing q) := by
      refine e3.trans ?_
      rw [hf₂, State.calling_eq h.top, State.setFrames_setFrames, State.pushFrame, State.frames_setTop _ hr', State.setTop_of_frames _ hr', State.setFrames_setFrames, hr]
      rfl
    have hsame : U.sameButNew ({ U with heap := s₂.heap, slotsUsed := s₂.slotsUsed } : State) L mc ms := by
      refine ⟨?_, q2, q3, q4, q5, q6⟩
      obtain ⟨t, ht, -⟩ := State.frames_cons hr
      show ({ U with heap := s₂.heap, slotsUsed := s₂.slotsUsed } : State) = { U.setFrames U.frames with heap := s₂.heap, slotsUsed := s₂.slotsUsed }
      rw [State.setFrames_self ht]
    subst hg
    refine Or.inr ⟨q, ⟨(({ U with heap := s₂.heap, slotsUsed := s₂.slotsUsed } : State).setVm s₂.vm), Ls ++ L, c0 + mc, s0 + ms⟩,
      ⟨X.admits, X.cas, X.clock, X.frames, X.room, X.hears, X.method, X.code, (X.here.setHeapUsed s₂.heap s₂.slotsUsed).setVm hW'.alike, X.tail, State.WarmedH.trans X.warmed hW', X.limits, X.bytes, X.same.trans (hsame.setVm s.vm)⟩,
      ⟨g, mk, s₂, L, E, ce, rfl, rfl, hx, hce, hcv, hcl, rfl, hL, rfl, rfl⟩, ?_⟩
    show Steps p.tables e below _ (((({ U with heap := s₂.heap, slotsUsed := s₂.slotsUsed } : State).setVm s₂.vm).setTop g).pushFrame (.throwing q))
    rw [← hs₂]
    exact hsteps
end ABack
/-! ===== the judgement over the abstract heap ===== -/
section AV
variable {p : Program} {l : Launch} {e : Env} {R : Room} {s : State} {m : MethodId} {args : Array Value} {below : List Frame} {meth : Method} {c : Code} {D : aD} {n0 s0 : Nat} {Q : State → Prop}
/-- local variables by place: whether wide, what they hold -/
abbrev aLv : Type := List (Nat × Bool × Value)
def lvH (ls : Array Slot) (nL : Nat) (lv : aLv) : Prop := lv_has ls nL (lv.map fun q => (q.1, q.2.2)) ∧ ∀ q ∈ lv, q.2.1 = false → q.2.2.category = 1
def lvP (lv : aLv) (ks : List Nat) : aLv := ks.filterMap (fun k => lv[k]?)
theorem lvH.mem {ls : Array Slot} {nL : Nat} {lv lv' : aLv} (h : lvH ls nL lv) (hm : ∀ q ∈ lv', q ∈ lv) : lvH ls nL lv' := by
  refine ⟨⟨h.1.1, h.1.2.1, fun q hq => ?_⟩, fun q hq => h.2 q (hm q hq)⟩
  obtain ⟨q', hq', rfl⟩ := List.mem_map.mp hq
  exact h.1.2.2 _ (List.mem_map.mpr ⟨q', hm _ hq', rfl⟩)
theorem lvH.pick {ls : Array Slot} {nL : Nat} {lv lv' : aLv} (h : lvH ls nL lv) (ks : List Nat) (hl : lvP lv ks = lv') : lvH ls nL lv' := by
  refine h.mem fun q hq => ?_
  rw [← hl] at hq
  obtain ⟨k, -, hk⟩ := List.mem_filterMap.mp hq
  exact List.mem_of_getElem? hk
theorem lvH.at {ls : Array Slot} {nL : Nat} {lv : aLv} (h : lvH ls nL lv) (j : Nat) {i : Nat} {w : Bool} {v : Value} (hj : lv[j]? = some (i, w, v)) : ls[i]? = some (.val v) :=
  h.1.2.2 (i, v) (List.mem_map.mpr ⟨(i, w, v), List.mem_of_getElem? hj, rfl⟩)
theorem lvH.st1 {ls : Array Slot} {nL : Nat} {lv lv' : aLv} {i : Nat} {v : Value} (h : lvH ls nL lv) (hi : i < nL) (hc : v.category = 1) (hl : (i, false, v) :: lv.filter (fun q => !(q.1 == i) && !(q.1 + 1 == i && q.2.1)) = lv') : ∃ ls', storeLocals ls i v = some ls' ∧ lvH ls' nL lv' := by
  obtain ⟨ls', e, h'⟩ := lv_store1 h.1 hi hc
  refine ⟨ls', e, ⟨h'.1, h'.2.1, fun q hq => h'.2.2 q ?_⟩, fun q hq hw => ?_⟩
  · subst hl
    rw [List.map_cons, List.mem_cons] at hq
    rcases hq with rfl | hq
    · exact List.mem_cons_self
    · obtain ⟨q', hq', rfl⟩ := List.mem_map.mp hq
      obtain ⟨h1, h2⟩ := List.mem_filter.mp hq'
      refine List.mem_cons_of_mem _ (List.mem_filter.mpr ⟨List.mem_map.mpr ⟨q', h1, rfl⟩, ?_⟩)
      cases hb : q'.2.1 with
      | true => simp [hb] at h2 ⊢; exact ⟨h2.1, Or.inl h2.2⟩
      | false => have h3 := h.2 q' h1 hb; simp [hb] at h2 ⊢; exact ⟨h2, Or.inr (by omega)⟩
  · subst hl
    rw [List.mem_cons] at hq
    rcases hq with rfl | hq
    · exact hc
    · exact h.2 q (List.mem_filter.mp hq).1 hw
theorem lvH.st2 {ls : Array Slot} {nL : Nat} {lv lv' : aLv} {i : Nat} {v : Value} (h : lvH ls nL lv) (hi : i + 1 < nL) (hc : v.category = 2) (hl : (i, true, v) :: lv.filter (fun q => !(q.1 == i) && (!(q.1 == i + 1) && !(q.1 + 1 == i && q.2.1))) = lv') : ∃ ls', storeLocals ls i v = some ls' ∧ lvH ls' nL lv' := by
  obtain ⟨ls', e, h'⟩ := lv_store2 h.1 hi hc
  refine ⟨ls', e, ⟨h'.1, h'.2.1, fun q hq => h'.2.2 q ?_⟩, fun q hq hw => ?_⟩
  · subst hl
    rw [List.map_cons, List.mem_cons] at hq
    rcases hq with rfl | hq
    · exact List.mem_cons_self
    · obtain ⟨q', hq', rfl⟩ := List.mem_map.mp hq
      obtain ⟨h1, h2⟩ := List.mem_filter.mp hq'
      refine List.mem_cons_of_mem _ (List.mem_filter.mpr ⟨List.mem_map.mpr ⟨q', h1, rfl⟩, ?_⟩)
      cases hb : q'.2.1 with
      | true => simp [hb] at h2 ⊢; exact ⟨h2.1, h2.2.1, Or.inl h2.2.2⟩
      | false => have h3 := h.2 q' h1 hb; simp [hb] at h2 ⊢; exact ⟨h2.1, h2.2, Or.inr (by omega)⟩
  · subst hl
    rw [List.mem_cons] at hq
    rcases hq with rfl | hq
    · cases hw
    · exact h.2 q (List.mem_filter.mp hq).1 hw
def V (p : Program) (l : Launch) (e : Env) (R : Room) (s : State) (m : MethodId) (args : Array Value) (below : List Frame) (meth : Method) (c : Code) (D : aD) (n0 s0 : Nat) (Q : State → Prop) (h : aH) (pc : Nat) (lv : aLv) (st : List Value) : Prop :=
  ∀ (H : Heap) (locs : List Loc) (k n : Nat) (ls : Array Slot), aRel D h H → aOld D H → s.heap.size ≤ H.size → (∀ z ∈ locs, aA D z.base) → k + n0 ≤ h.1 → n + s0 ≤ h.2.1 → lvH ls c.maxLocals lv →
    W p l e R s m args below meth c H locs k n Q (F0 m pc ls st)
/-- the walk's fixed part -/
def aC (p : Program) (l : Launch) (R : Room) (s : State) (m : MethodId) (meth : Method) (c : Code) (D : aD) (n0 s0 : Nat) (own : String) (cc : ByteArray) (rf rl nL : Nat) : Prop :=
  p.tables.exec = Jvm.exec ∧ c.code = cc ∧ s.vm.findClass own = some m.cls ∧ aVm D s ∧ meth.locks = false ∧ rf ≤ R.frames ∧ rl ≤ R.locals ∧ D.2.1 ≤ R.cells + n0 ∧ D.2.2.1 ≤ R.slots + s0 ∧ l.stackTraces = false ∧ aOld D s.heap ∧ c.maxLocals = nL
theorem V.sub {h : aH} {pc : Nat} {lv lv' : aLv} {st : List Value} (ks : List Nat) (hl : lvP lv ks = lv') (k : V p l e R s m args below meth c D n0 s0 Q h pc lv' st) : V p l e R s m args below meth c D n0 s0 Q h pc lv st :=
  fun H locs k' n ls h1 h2 h3 h4 h5 h6 h7 => k H locs k' n ls h1 h2 h3 h4 h5 h6 (h7.pick ks hl)
end AV
/-- the end that a contract asks -/
def aEnd (D : aD) (below : List Frame) (args : Array Value) (s : State) (h : aH) (res : aRes) : State → Prop :=
  vx_MQ below (aQc D h res) (aXC D h res) args s (res.2.1 - h.1) (res.2.2.1 - h.2.1) (aA D)
/-- the argument values, by places -/
def aArgs : Nat → List (Bool × Value) → aLv
  | _, [] => []
  | i, (w, v) :: r => (i, w, v) :: aArgs (i + (if w then 2 else 1)) r
theorem aArgs_map : ∀ (as : List (Bool × Value)) (i : Nat), (∀ q ∈ as, q.1 = (q.2.category == 2)) → (aArgs i as).map (fun q => (q.1, q.2.2)) = lv_args i (as.map (·.2)) := by
  intro as
  induction as with
  | nil => intro i _; rfl
  | cons q r ih =>
    intro i h
    have hq := h q List.mem_cons_self
    have := ih (i + (if q.1 then 2 else 1)) (fun z hz => h z (List.mem_cons_of_mem _ hz))
    obtain ⟨w, v⟩ := q
    simp only [aArgs, List.map_cons, lv_args, this]
    have e : (if w then 2 else 1) = v.category := by
      dsimp only at hq
      rw [hq]
      rcases lv_cat v with h1 | h1 <;> simp [h1]
    rw [e]
    rcases lv_cat v with h1 | h1 <;> simp [h1]
theorem aArgs_cat : ∀ (as : List (Bool × Value)) (i : Nat), (∀ q ∈ as, q.1 = (q.2.category == 2)) → ∀ q ∈ aArgs i as, q.2.1 = false → q.2.2.category = 1 := by
  intro as
  induction as with
  | nil => intro i _ q hq; cases hq
  | cons z r ih =>
    intro i h q hq hw
    obtain ⟨w, v⟩ := z
    rw [aArgs, List.mem_cons] at hq
    rcases hq with rfl | hq
    · have := h (w, v) List.mem_cons_self
      dsimp only at this hw ⊢
      rw [hw] at this
      rcases lv_cat v with h1 | h1
      · exact h1
      · rw [h1] at this; cases this
    · exact ih _ (fun z hz => h z (List.mem_cons_of_mem _ hz)) q hq hw
/-- a contract out of a walk -/
theorem aM.of {l : Launch} {D : aD} {y : MethodName} {cc : ByteArray} {maxL : Nat} {ret : Option FieldType} {rf rl : Nat} {as : List Value} (ps : List (Bool × Value)) (has : ps.map (·.2) = as) (hps : ∀ q ∈ ps, q.1 = (q.2.category == 2)) {h : aH} {res : aRes} (hy : plainName y.cls = true) (hst : l.stackTraces = false) (hn : (lg_sl as).length ≤ maxL)
    (body : ∀ p e s m args below meth c, aC p l (aRm D h rf rl) s m meth c D h.1 h.2.1 y.cls cc rf rl maxL → args = as.toArray → meth.sig.returnType = ret → meth.name = y.name → (∀ x ∈ c.exceptionTable.toList, False) →
      V p l e (aRm D h rf rl) s m args below meth c D h.1 h.2.1 (aEnd D below args s h res) h 0 (aArgs 0 ps) []) : aM l D y cc maxL ret rf rl as h res := by
  refine vx_ofW (cc := cc) (maxL := maxL) (ret := ret) hy rfl ?_
  intro p e s m args below meth c s₁ B hml hx hP
  obtain ⟨rfl, hV, hO, hR⟩ := hP
  have hl := lv_entry as (n := maxL) hn
  rw [lg_entry_eq]
  refine body p e s m as.toArray below meth c ⟨B.exec, B.bytes, findClass_of_methodNamed B.named, hV, B.notSynchronized, Nat.le_refl _, Nat.le_refl _, ?_, ?_, hst, hO, hml⟩ rfl B.returns (name_of_methodNamed B.named B.method).1 hx s.heap [] 0 0 _ hR hO (Nat.le_refl _) (fun z hz => by cases hz) (by omega) (by omega) ⟨by rw [hml, aArgs_map ps 0 hps, has]; exact hl, aArgs_cat ps 0 hps⟩
  · show D.2.1 ≤ (D.2.1 - h.1) + h.1
    omega
  · show D.2.2.1 ≤ (D.2.2.1 - h.2.1) + h.2.1
    omega
