/-! ===== lambdas: the call of one, through its interface ===== -/
set_option maxRecDepth 100000
theorem intArgs : ∀ (xs : List Int32) (i : Nat), aArgs i (xs.map fun x => (false, Value.int x)) = intLv i xs := by
  intro xs
  induction xs with
  | nil => intro i; rfl
  | cons x r ih => intro i; exact congrArg _ (ih (i + 1))
theorem intPs (b : Nat) (xs : List Int32) : ∀ q ∈ (false, Value.ref b) :: xs.map (fun x => (false, Value.int x)), q.1 = (q.2.category == 2) := by
  intro q hq
  rcases List.mem_cons.mp hq with rfl | hq
  · rfl
  · obtain ⟨x, -, rfl⟩ := List.mem_map.mp hq
    rfl
section ALQ
variable {p : Program} {l : Launch} {e : Env} {R : Room} {s : State} {m : MethodId} {args : Array Value} {below : List Frame} {meth : Method} {c : Code} {D : aD} {n0 s0 : Nat} {Q : State → Prop}
variable {own : String} {cc : ByteArray} {rf rl nL : Nat} {h h' : aH} {pc : Nat} {lv : aLv} {st : List Value}
/-- the walk of a made method -/
def hWalk (l : Launch) (D : aD) (ownL : String) (code : Array UInt8) (rf rl hm : Nat) (rt : FieldType) (fi : List (Nat × Nat × Nat)) (types : Array FieldType) (mi ci nt : Nat) (y : MethodName) (b : Nat) (xs : List Int32) (h : aH) (res : aRes) : Prop :=
  ∀ (p : Program) (e : Env) (R : Room) (s : State) (m : MethodId) (args : Array Value) (below : List Frame) (meth : Method) (c : Code), l.stackTraces = false → hX p R s m meth c D h.1 h.2.1 ownL code rf rl hm rt fi types mi ci nt y h →
    V p l e R s m args below meth c D h.1 h.2.1 (aEnd D below args s h res) h 0 ((0, false, .ref b) :: intLv 1 xs) []
theorem hWalkV {ownL : String} {code : Array UInt8} {hm mi ci nt : Nat} {rt : FieldType} {fi : List (Nat × Nat × Nat)} {types : Array FieldType} {y : MethodName} {t b t0 b0 : Nat} {vs : List Value} {fs0 : List Value} {xs : List Int32} {cc' : ByteArray} {maxL' n9 rf' rl' : Nat} {ret' : Option FieldType} {x : Int32} {h2 : aH}
    (hD : lDec ⟨code⟩ fi xs.length mi true) (h3 : xs.length ≤ 3) (ht : 100 ≤ t) (hb : h.2.2 b = some (t, .ref b0 :: vs)) (hlen : vs.length + 1 = fi.length) (hb0 : h.2.2 b0 = some (t0, fs0)) (hnm : aNmT t0 y.cls) (hi : aYi y y.cls) (hY : aY y cc' maxL' ret' n9) (hn : vs.length + xs.length = n9) (hM : aM l D y cc' maxL' ret' rf' rl' (.ref b0 :: (vs ++ xs.map Value.int)) h (.inr (some (.int x)), h2)) (hr : rt = .int ∨ (rt = .boolean ∧ (x = 0 ∨ x = 1))) :
    hWalk l D ownL code (rf' + 1) (8 + (maxL' + 11) + rl') hm rt fi types mi ci nt y b xs h (.inr (some (.int x)), h2) := by
  intro p e R s m args below meth c hst X0
  have last := v_ofD (p := p) (l := l) (e := e) (m := m) (args := args) (below := below) (meth := meth) (len := 3) (lv := (0, false, .ref b) :: intLv 1 xs) (Q := aEnd D below args s h (.inr (some (.int x)), h2)) (hv_callV (pc := 4 * fi.length + xs.length) X0 hb0 hnm hi hY (by simp; omega) (Nat.le_refl _) (Nat.le_refl _) hM hD.2.2.1) (hv_ret X0 hr rfl hD.2.2.2 (Nat.le_refl _))
  have e1 : (vs ++ xs.map Value.int).reverse ++ [Value.ref b0] = (xs.map Value.int).reverse ++ (Value.ref b0 :: vs).reverse := by simp
  rw [e1] at last
  have ints := hv_ints X0.1 X0.2.1 hD rfl h3 last xs.length 0 (by omega)
  have flds := hv_fields X0.1 X0.2.1 hD (fun U hU j q hq => by
    obtain ⟨-, -, -, -, -, -, -, -, -, -, -, -, f1, -⟩ := X0.2.2.2.2.2.2.2.2.2.2.2.2 U hU
    exact f1 j q hq) ht hb hlen (by simpa using ints) fi.length 0 (by omega)
  simpa using flds
theorem hWalkS {ownL : String} {code : Array UInt8} {hm mi ci nt : Nat} {rt : FieldType} {fi : List (Nat × Nat × Nat)} {types : Array FieldType} {y : MethodName} {t b : Nat} {vs : List Value} {xs : List Int32} {cc' : ByteArray} {maxL' n9 rf' rl' : Nat} {ret' : Option FieldType} {x : Int32} {h2 : aH}
    (hD : lDec ⟨code⟩ fi xs.length mi false) (h3 : xs.length ≤ 3) (ht : 100 ≤ t) (hb : h.2.2 b = some (t, vs)) (hlen : vs.length = fi.length) (hi : Cond.static y ∈ lw_all) (hY : aY y cc' maxL' ret' n9) (hn : vs.length + xs.length = n9) (hM : aM l D y cc' maxL' ret' rf' rl' (vs ++ xs.map Value.int) h (.inr (some (.int x)), h2)) (hr : rt = .int ∨ (rt = .boolean ∧ (x = 0 ∨ x = 1))) :
    hWalk l D ownL code (rf' + 1) (8 + (maxL' + 11) + rl') hm rt fi types mi ci nt y b xs h (.inr (some (.int x)), h2) := by
  intro p e R s m args below meth c hst X0
  have last := v_ofD (p := p) (l := l) (e := e) (m := m) (args := args) (below := below) (meth := meth) (len := 3) (lv := (0, false, .ref b) :: intLv 1 xs) (Q := aEnd D below args s h (.inr (some (.int x)), h2)) (hv_callS (pc := 4 * fi.length + xs.length) X0 hi hY (by simp; omega) (Nat.le_refl _) (Nat.le_refl _) hM hD.2.2.1) (hv_ret X0 hr rfl hD.2.2.2 (Nat.le_refl _))
  have e1 : (vs ++ xs.map Value.int).reverse = (xs.map Value.int).reverse ++ vs.reverse := by simp
  rw [e1] at last
  have ints := hv_ints X0.1 X0.2.1 hD rfl h3 last xs.length 0 (by omega)
  have flds := hv_fields X0.1 X0.2.1 hD (fun U hU j q hq => by
    obtain ⟨-, -, -, -, -, -, -, -, -, -, -, -, f1, -⟩ := X0.2.2.2.2.2.2.2.2.2.2.2.2 U hU
    exact f1 j q hq) ht hb hlen (by simpa using ints) fi.length 0 (by omega)
  simpa using flds
theorem d_L (C : aC p l R s m meth c D n0 s0 own cc rf rl nL) {index count k pc0 ix b hm mi ci nt sn rfH rlH : Nat} {x y0 y : MethodName} {σ : Lambda.Shape} {code : Array UInt8} {rt : FieldType} {fi : List (Nat × Nat × Nat)} {types : Array FieldType} {vs As rest : List Value} {xs : List Int32} {v : Value} {h2 : aH} {r9 : Option Nat}
    (hk : aLms[k]? = some (y0, pc0, ix, σ)) (ok : lOk σ y0.cls code hm rt fi types mi ci nt sn y) (hpl : plainName (y0.cls ++ "$$Lambda") = true) (hi : σ.iface = x.cls ∧ σ.name = x.name ∧ σ.sam.toString = x.desc)
    (hl : Cond.methodLink own index x ∈ lw_all) (hdc : Cond.declares x ∈ lw_tbl) (hfc : Cond.interfaceMethod x.cls x.cls x.name x.desc ∈ lw_tbl ∧ (x.cls ≠ "java/lang/invoke/MethodHandle" ∧ x.cls ≠ "java/lang/invoke/VarHandle")) (hln : (parseMethodDescriptor x.desc).map (fun d => d.parameters.length) = some xs.length)
    (hr9 : r9 = some b) (hb9 : h.2.2 b = some (110 + k, vs)) (hAs : xs.map Value.int = As) (hm9 : xs.length + 1 = hm) (hW : hWalk l D y0.cls code rfH rlH hm rt fi types mi ci nt y b xs h (.inr (some v), h2))
    (h9 : rfH + 1 ≤ rf) (h8 : 8 + (hm + 11) + rlH ≤ rl) (hw : (rest.map fun v => v.category).sum ≤ 8) (hst : As.reverse ++ va_rf r9 :: rest = st) (d : decode cc pc = .ok (.invokeinterface index count, 5)) :
    aD9 p l e R s m args below meth c D n0 s0 h (.inr (some v), h2) pc st rest (va_rf r9 :: As : List Value).toArray 5 := by
  intro H locs k' n ls h1 h2' h3 h5 h6 h7 T hT X
  subst hst
  subst hr9
  subst hAs
  have hV := C.2.2.2.1
  have hG := hV.1
  have mF := lm_site hV hk ok
  obtain ⟨kK, tk, file, methk, ck, toy, t, ⟨r1, r2, r3, -⟩, ⟨u1, u2, u3, u4, u5, u6, u7⟩, -, -, -, -, -, -⟩ := mF
  obtain ⟨m9, kc, cf, i0, p0, a1, a2, a3, a4, a5, a6, a7⟩ := hV.2.2.2.2.2 k _ hk
  obtain ⟨cellB, q1, q2, q3, q4, q5, q6⟩ := h1.2.2.2 b _ hb9
  have hdecl := gN (args := args) hdc rfl hG
  have hface := gN (args := args) hfc.1 (by simp [gOk, hfc.2.1, hfc.2.2]) hG
  obtain ⟨r0, r, hn, hrm, hstR, hsigR⟩ := Cond.declares_spec hdecl
  obtain ⟨cL, kL, r1', hcL, hkL, hiL, hfoundL, hn1⟩ := Cond.interfaceMethod_spec hface
  cases hn.symm.trans hn1
  have hr0cls : r0.cls = cL := Option.some.inj ((findClass_of_methodNamed hn).symm.trans hcL)
  obtain ⟨hnameR, hdescR⟩ := name_of_methodNamed hn hrm
  obtain ⟨-, -, -, -, -, -, -, iface', -, -, -, -, found, -, -, -, -, -, hi', -, -, -, -, -, -, hfound', -, -, -, -, -, -, -, -, -, -, hsel⟩ := Lambda.isMade_spec a6
  rw [hi.1] at hi'
  cases hcL.symm.trans hi'
  have hfr : found = r0 := by
    have h1 : s.methodFound? x.cls x.name x.desc = some r0 := hfoundL
    simp only [State.methodFound?, hcL, hkL, hiL, Option.bind_eq_bind, Option.bind_some] at h1
    rw [hi.2.1, hi.2.2] at hfound'
    rw [hfound'] at h1
    exact Option.some.inj h1
  subst hfr
  obtain ⟨i2, hi2, hasg, hway⟩ := State.lambdaCallable_spec a7
  rw [hi.1] at hi2
  cases hcL.symm.trans hi2
  have hcB : cellB.cls = D.1.1 (110 + k) := q2
  have hsel' : selectMethod e.platform s.vm cellB.cls found = .method ⟨D.1.1 (110 + k), 1⟩ := by rw [Launch.admits_selectMethod X.admits, hcB]; exact hsel
  have hlen : (xs.map Value.int).length = r.sig.parameters.length := by
    rw [hsigR] at hln
    rw [List.length_map]
    exact (Option.some.inj hln).symm
  have hdd : decode c.code pc = .ok (.invokeinterface index count, 5) := by rw [C.2.1]; exact d
  obtain ⟨vm₁, X₁, hstep⟩ := X.invokeinterface C.1 C.2.2.1 (hG.use (g_all hl)) hn hrm hstR (by rw [hr0cls]; exact hkL) hiL hfc.2 (a := b) (cell := cellB) (kcell := kK) (by rw [hT]; exact q1) (fun z hz => by rw [hz] at q3; cases q3) (by rw [hcB]; exact r1) (by rw [hcB, hr0cls]; exact hasg) hsel' u1
    (by rw [hcB, hnameR, hdescR, ← hi.2.1, ← hi.2.2]; exact hway) (by rw [u6]; decide) (by simp [Method.isAbstract, u6, hasFlag, Acc.abstract]) (g := F0 m pc ls ((xs.map Value.int).reverse ++ va_rf (some b) :: rest)) rfl (argsL := xs.map Value.int) (rest := rest) hlen rfl hdd
  have hW1 : s.WarmedH vm₁ := X₁.warmed
  obtain ⟨methk', hmk', hcK, hcc, hml, hlk, hfl, hrt⟩ : ∃ methk' : Method, (T.setVm vm₁).vm.method? ⟨D.1.1 (110 + k), 1⟩ = some methk' ∧ methk'.code = some ck ∧ ck.code.data = code ∧ ck.maxLocals = hm ∧ methk'.locks = false ∧ methk'.accessFlags = 0x0001 ∧ methk'.sig.returnType = some rt :=
    ⟨methk, by show vm₁.method? _ = some methk; rw [hW1.alike.method?]; exact u1, u2, u3, u4, u5, u6, u7⟩
  have hplain : (T.setVm vm₁).plainMethod ⟨D.1.1 (110 + k), 1⟩ := State.plainMethod.of_name (fun k9 hk9 => by
    obtain ⟨k8, hk8, he8⟩ := hW1.alike.2.2 _ _ r1
    cases hk9.symm.trans hk8
    have : k9.name = kK.name := by rw [he8]
    rw [this, r2]
    exact hpl)
  have gfr := C.2.2.2.2.2.1
  have glo := C.2.2.2.2.2.2.1
  have gce := C.2.2.2.2.2.2.2.1
  have gsl := C.2.2.2.2.2.2.2.2.1
  have b1 := h1.2.1
  have b2 := h1.2.2.1
  obtain ⟨Y₀, hin⟩ := X₁.into (g := (F0 m pc ls rest)) rfl h7 hdd (Value.ref b :: xs.map Value.int).toArray (R' := { frames := rfH, cells := R.cells - k', slots := R.slots - n, locals := rlH }) hmk' hcK hlk hplain
    (Nat.le_trans h9 gfr) (by show 2 * 0 + (rest.map fun v => v.category).sum + (ck.maxLocals + 11) + rlH ≤ R.locals; rw [hml]; omega) (by show k' + (R.cells - k') ≤ R.cells; omega) (by show n + (R.slots - n) ≤ R.slots; omega)
  have hheap : ((((T.setVm vm₁).setTop (F0 m pc ls rest)).pushFrame (.java (entryFrame ⟨D.1.1 (110 + k), 1⟩ (Value.ref b :: xs.map Value.int).toArray ck.maxLocals))) : State).heap = H := hT
  have hsum : (lg_sl (Value.ref b :: xs.map Value.int)).length ≤ hm := by
    rw [lg_sl_sum]
    have : ∀ xs : List Int32, ((xs.map Value.int).map fun v => v.category).sum = xs.length := by
      intro xs
      induction xs with
      | nil => rfl
      | cons x r ih => rw [List.map_cons, List.map_cons, List.sum_cons, ih, List.length_cons]; show 1 + r.length = r.length + 1; omega
    rw [List.map_cons, List.sum_cons, this]
    show 1 + xs.length ≤ hm
    omega
  have hent := lv_entry (Value.ref b :: xs.map Value.int) (n := hm) hsum
  have hps : aArgs 0 ((false, Value.ref b) :: xs.map (fun x => (false, Value.int x))) = (0, false, Value.ref b) :: intLv 1 xs := congrArg _ (intArgs xs 1)
  have hmp : ((false, Value.ref b) :: xs.map (fun x => (false, Value.int x))).map (·.2) = Value.ref b :: xs.map Value.int := by simp
  have hwalk := hW p e { frames := rfH, cells := R.cells - k', slots := R.slots - n, locals := rlH } ((T.setVm vm₁).calling (F0 m pc ls rest) ⟨D.1.1 (110 + k), 1⟩ (Value.ref b :: xs.map Value.int).toArray) ⟨D.1.1 (110 + k), 1⟩ (Value.ref b :: xs.map Value.int).toArray (.java (F0 m pc ls rest) :: below) methk' ck C.st
    ⟨C.1, by rw [← hcc], hV.moved hW1, hlk, Nat.le_refl _, Nat.le_refl _, by show D.2.1 ≤ R.cells - k' + h.1; omega, by show D.2.2.1 ≤ R.slots - n + h.2.1; omega, hml, rfl, rfl, hrt, fun U hU => lm_site (hV.moved (U := U) (State.WarmedH.trans hW1 hU)) hk ok⟩
    H [] 0 0 _ h1 h2' (by show T.heap.size ≤ H.size; rw [hT]; exact Nat.le_refl _) (fun z hz => by cases hz) (by omega) (by omega) ⟨by rw [hml, ← hps, aArgs_map _ 0 (intPs b xs), hmp]; exact hent, by rw [← hps]; exact aArgs_cat _ 0 (intPs b xs)⟩ _ hheap Y₀
  obtain ⟨t9, steps, o, hrun, hend, hq⟩ := hwalk
  rcases hq with ⟨⟨rv, e1, e2, w1, w2, w3, w4, w5⟩, L, hfe, hL⟩ | ⟨q, rfl, E, ce, L, ⟨ek, hek, -⟩, -⟩
  · cases e1
    subst e2
    obtain ⟨-, hW₂, hsame⟩ := id hfe
    obtain ⟨T', X', hW', -, ht9⟩ := X₁.outOf (g := (F0 m pc ls rest)) rfl hdd hend hW₂ hsame
    refine Or.inl ⟨some v, vm₁, ⟨T', locs ++ L, k' + _, n + _⟩, hW1, X', ⟨_, _, t9, L, ?_, ?_, ⟨some v, rfl, rfl, w1, w2, w3, w4, w5⟩, rfl, hL, rfl, rfl⟩, fun target htg => ?_⟩
    · rw [ht9]; rfl
    · rw [ht9]; rfl
    · refine hstep target fun acts => ?_
      refine Steps.trans ?_ htg
      show Steps p.tables e below (doInvoke e ((T.setVm vm₁).setTop (F0 m pc ls rest)) acts ⟨D.1.1 (110 + k), 1⟩ (Value.ref b :: xs.map Value.int : List Value).toArray).1 _
      rw [hin acts]
      show Steps p.tables e below _ (T'.setTop (F0 m (pc + 5) ls ((some v).toList ++ rest)))
      have ht9' : t9 = T'.setTop (F0 m (pc + 5) ls ((some v).toList ++ rest)) := ht9
      rw [← ht9']
      refine Steps.weaken (mid := [.java (F0 m pc ls rest)]) ?_
      have hee : entryFrame ⟨D.1.1 (110 + k), 1⟩ (Value.ref b :: xs.map Value.int : List Value).toArray ck.maxLocals = F0 ⟨D.1.1 (110 + k), 1⟩ 0 ((lg_sl (Value.ref b :: xs.map Value.int) ++ List.replicate (hm - (lg_sl (Value.ref b :: xs.map Value.int)).length) Slot.unset).toArray) [] := by rw [hml, lg_entry_eq]
      rw [← hee] at steps
      exact steps
  · cases hek
end ALQ
theorem lvl_0 : lVal [] [] := trivial
theorem lvl_c {t : FieldType} {v : Value} {ts : List FieldType} {vs : List Value} (h1 : narrow t v = v) (h2 : fits t v = true) (h3 : lVal ts vs) : lVal (t :: ts) (v :: vs) := ⟨h1, h2, h3⟩
theorem lkS_0 : aLms[0]? = some (⟨"FigureSurvey", "genuineOn", "(LFigureSurvey$Panel;)I"⟩, 9, 97, lsS siteWord_1_1) := rfl
theorem lDec_0 : lDec ⟨#[42, 180, 0, 17, 42, 180, 0, 19, 27, 182, 0, 27, 172]⟩ [(17, 2, 16), (19, 2, 18)] 1 27 true := by unfold lDec; decide +kernel
theorem lkS_1 : aLms[1]? = some (⟨"FigureSurvey$Figure", "doubt", "()I"⟩, 15, 46, lsS siteWord_1_2) := rfl
theorem lDec_1 : lDec ⟨#[42, 180, 0, 15, 27, 182, 0, 22, 172]⟩ [(15, 2, 14)] 1 22 true := by unfold lDec; decide +kernel
theorem lkS_2 : aLms[2]? = some (⟨"FigureSurvey", "errors", "()I"⟩, 8, 506, lsS siteWord_1_3) := rfl
theorem lDec_2 : lDec ⟨#[42, 180, 0, 15, 27, 182, 0, 22, 172]⟩ [(15, 2, 14)] 1 22 true := by unfold lDec; decide +kernel
theorem lkS_3 : aLms[3]? = some (⟨"FigureSurvey$Scene", "<init>", "(LFigureSurvey;LFigureSurvey$Panel;)V"⟩, 209, 89, lsS siteWord_1_5) := rfl
theorem lDec_3 : lDec ⟨#[42, 180, 0, 15, 27, 28, 182, 0, 22, 172]⟩ [(15, 2, 14)] 2 22 true := by unfold lDec; decide +kernel
theorem lkS_4 : aLms[4]? = some (⟨"FigureSurvey$Scene", "<init>", "(LFigureSurvey;LFigureSurvey$Panel;)V"⟩, 329, 123, lsS siteWord_1_6) := rfl
theorem lDec_4 : lDec ⟨#[42, 180, 0, 15, 27, 28, 182, 0, 22, 172]⟩ [(15, 2, 14)] 2 22 true := by unfold lDec; decide +kernel
theorem lkS_5 : aLms[5]? = some (⟨"FigureSurvey$Scene", "bestBroken", "(LFigureSurvey$Clash;)I"⟩, 93, 155, lsS siteWord_1_7) := rfl
theorem lDec_5 : lDec ⟨#[42, 180, 0, 18, 42, 180, 0, 20, 42, 180, 0, 22, 27, 184, 0, 30, 172]⟩ [(18, 2, 17), (20, 2, 19), (22, 2, 21)] 1 30 false := by unfold lDec; decide +kernel
theorem lkS_6 : aLms[6]? = some (⟨"FigureSurvey$Panel", "seen", "(I)I"⟩, 3, 50, lsS siteWord_1_8) := rfl
theorem lDec_6 : lDec ⟨#[42, 180, 0, 17, 42, 180, 0, 19, 27, 182, 0, 27, 172]⟩ [(17, 2, 16), (19, 2, 18)] 1 27 true := by unfold lDec; decide +kernel
theorem lkS_7 : aLms[7]? = some (⟨"FigureSurvey", "addFigure", "(I)I"⟩, 27, 206, lsS siteWord_1_9) := rfl
theorem lDec_7 : lDec ⟨#[42, 180, 0, 17, 42, 180, 0, 19, 27, 182, 0, 27, 172]⟩ [(17, 2, 16), (19, 2, 18)] 1 27 true := by unfold lDec; decide +kernel
theorem lkS_8 : aLms[8]? = some (⟨"FigureSurvey", "addEntry", "(II)I"⟩, 36, 398, lsS siteWord_1_10) := rfl
theorem lDec_8 : lDec ⟨#[42, 180, 0, 17, 42, 180, 0, 19, 27, 182, 0, 27, 172]⟩ [(17, 2, 16), (19, 2, 18)] 1 27 true := by unfold lDec; decide +kernel
theorem lkS_9 : aLms[9]? = some (⟨"FigureSurvey", "tellDam", "(II)I"⟩, 57, 485, lsS siteWord_1_11) := rfl
theorem lDec_9 : lDec ⟨#[42, 180, 0, 15, 27, 182, 0, 22, 172]⟩ [(15, 2, 14)] 1 22 true := by unfold lDec; decide +kernel
