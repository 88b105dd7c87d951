/-! ===== calls through an interface that inherits the method ===== -/
set_option maxRecDepth 100000
section AUP
variable {p : Program} {l : Launch} {e : Env} {R : Room} {s : State} {m : MethodId} {args : Array Value} {below : List Frame} {meth : Method} {c : Code} {D : aD} {n0 s0 : Nat} {Q : State → Prop}
variable {own : String} {cc : ByteArray} {rf rl nL : Nat} {h h' : aH} {pc : Nat} {lv : aLv} {st : List Value}
theorem d_FU (C : aC p l R s m meth c D n0 s0 own cc rf rl nL) {index count : Nat} {x y : MethodName} {J nm : String} {cc' : ByteArray} {maxL' n9 : Nat} {ret' : Option FieldType} {rf' rl' t b : Nat} {As rest : List Value} {res : aRes} {r9 : Option Nat} {fs9 : List Value} (hr9 : r9 = some b) (hb9 : h.2.2 b = some (t, fs9)) (hnm : aNmT t nm)
    (hl : Cond.methodLink own index x ∈ aNW) (hfc : Cond.interfaceMethod x.cls J x.name x.desc ∈ aNW) (hxo : x.cls ≠ J) (hx : x.cls ≠ "java/lang/invoke/MethodHandle" ∧ x.cls ≠ "java/lang/invoke/VarHandle") (hdc : Cond.declares ⟨J, x.name, x.desc⟩ ∈ lw_tbl) (hpO : Cond.publicMethod ⟨J, x.name, x.desc⟩ ∈ lw_tbl) (hJ : J ≠ "java/lang/invoke/MethodHandle" ∧ J ≠ "java/lang/invoke/VarHandle")
    (hse : Cond.selects nm ⟨J, x.name, x.desc⟩ y ∈ lw_all) (hi : Cond.instanceMethod y ∈ lw_all) (hpu : Cond.publicMethod y ∈ lw_tbl) (hun : Cond.unhidden nm x.name x.desc ∈ lw_tbl) (hca : Cond.castable nm x.cls ∈ lw_tbl) (hln : (parseMethodDescriptor x.desc).map (fun d => d.parameters.length) = some n9) (hY : aY y cc' maxL' ret' n9) (hn : As.length = n9) (h9 : rf' + 1 ≤ rf) (h8 : 8 + (maxL' + 11) + rl' ≤ rl) (hw : (rest.map fun v => v.category).sum ≤ 8) (hst : As.reverse ++ va_rf r9 :: rest = st) (hM : aM l D y cc' maxL' ret' rf' rl' (va_rf r9 :: As) h res) (d : decode cc pc = .ok (.invokeinterface index count, 5)) :
    aD9 p l e R s m args below meth c D n0 s0 h res pc st rest (va_rf r9 :: As : List Value).toArray 5 := by
  intro H locs k n ls h1 h2 h3 h5 h6 h7 T hT X
  have hG := C.2.2.2.1.1
  subst hst
  subst hr9
  obtain ⟨cellB, c1, c2, c3⟩ := (h1.2.2.2 b _ hb9).recv C.2.2.2.1 hnm
  obtain ⟨kB, hkB⟩ := (hnm.cls C.2.2.2.1).2
  have c4 := Option.some.inj ((hnm.cls C.2.2.2.1).1.symm.trans c3)
  have hdecl := gN (args := args) hdc rfl hG
  have hface := hG.use (args := args) (g_nw hfc rfl)
  obtain ⟨r0, r, hn0, hrm, hstR, hsigR⟩ := Cond.declares_spec hdecl
  obtain ⟨cL, kL, r1, hcL, hkL, hiL, hfoundL, hn1⟩ := Cond.interfaceMethod_spec hface
  cases hn0.symm.trans hn1
  obtain ⟨hnameR, hdescR⟩ := name_of_methodNamed hn0 hrm
  obtain ⟨mk, methM, hnamed, hmethM, -, habM⟩ := Cond.instanceMethod_spec (hG.use (args := args) (g_all hi))
  obtain ⟨c2', r2, m2, q1, q2, q3, q4, -⟩ := Cond.selects_spec (hG.use (args := args) (g_all hse))
  cases c3.symm.trans q1
  have hr2 : r2 = r0 := Option.some.inj (q2.symm.trans (State.methodFound?_of_named hn0 hJ))
  subst hr2
  cases hnamed.symm.trans q3
  have hselP : selectMethod e.platform s.vm cellB.cls r2 = .method mk := by rw [Launch.admits_selectMethod X.admits]; exact q4
  have hpubM : hasFlag methM.accessFlags Acc.public_ = true := Cond.publicMethod_spec hnamed hmethM (gN (args := args) hpu rfl hG)
  have hinst : s.vm.assignable cellB.cls cL = true := by
    obtain ⟨x1, x2, y1, y2, y3⟩ := Cond.castable_spec (gN (args := args) hca rfl hG)
    cases c3.symm.trans y1
    cases hcL.symm.trans y2
    exact y3
  have hway : ((cellB.cls :: s.vm.superclasses cellB.cls).any fun k => (declaredIn s.vm r.name r.desc k).any fun (_, y) => y.isPrivate || y.isStatic) = false := by
    rw [hnameR, hdescR]; exact Cond.unhidden_spec c3 (gN (args := args) hun rfl hG)
  have hdd : decode c.code pc = .ok (.invokeinterface index count, 5) := by rw [C.2.1]; exact d
  have hlen : As.length = r.sig.parameters.length := by
    rw [hsigR] at hln
    rw [hn]
    exact (Option.some.inj hln).symm
  obtain ⟨vm₁, X₁, hstep⟩ := X.invokeinterfaceUp C.1 (J := J) C.2.2.1 (hG.use (g_nw hl rfl)) hface hdecl (gN hpO rfl hG) hxo hx hcL (a := b) (cell := cellB) (kcell := kB) (by rw [hT]; exact c1) (fun z hz => by rw [hz] at c2; cases c2) (by rw [← c4]; exact hkB) hinst hn0 hrm hselP hmethM hway hpubM habM
    (g := F0 m pc ls (As.reverse ++ va_rf (some b) :: rest)) rfl (argsL := As) (rest := rest) hlen rfl hdd
  have hW1 : s.WarmedH vm₁ := X₁.warmed
  have hnamed' : (T.setVm vm₁).methodNamed? y = some mk := by
    have e := State.methodNamed?_setVm (s := s) hW1.alike y
    rw [hnamed] at e
    exact e
  rcases aK_ (e := e) (p := p) (below := below) (args := args) (len := 5) C hY hM h9 h8 m meth c ⟨T.setVm vm₁, locs, k, n⟩ (F0 m pc ls rest) (.invokeinterface index count) mk (va_rf (some b) :: As : List Value).toArray X₁ rfl h7 hdd (aRestW hw) hnamed' (aStart C h1 h2 h5 h6 hT hW1) with ⟨v, B, X', hpost, steps⟩ | ⟨q, B, X', hpost, steps⟩
  · refine Or.inl ⟨v, vm₁, B, hW1, X', hpost, fun target htg => hstep target fun acts => ?_⟩
    rw [doInvoke_state]
    exact steps.trans htg
  · refine Or.inr ⟨q, vm₁, B, hW1, X', hpost, hstep _ fun acts => ?_⟩
    rw [doInvoke_state]
    exact steps
end AUP
