/-! ===== lambdas: calling one ===== -/
set_option maxRecDepth 100000
section ALC
variable {p : Program} {l : Launch} {e : Env} {R : Room} {s : State} {m : MethodId} {args : Array Value} {below : List Frame} {meth : Method} {c : Code} {D : aD} {n0 s0 : Nat} {Q : State → Prop}
variable {own : String} {cc : ByteArray} {rf rl nL : Nat} {h h' : aH} {pc : Nat} {lv : aLv} {st : List Value}
/-- the bytes of the made method -/
def lDec (cc : ByteArray) (fi : List (Nat × Nat × Nat)) (np mi : Nat) (virt : Bool) : Prop :=
  (∀ j, j < fi.length → decode cc (4 * j) = .ok (.aload_n 0, 1) ∧ decode cc (4 * j + 1) = .ok (.getfield ((fi[j]?).getD (0, 0, 0)).1, 3)) ∧
  (∀ j, j < np → decode cc (4 * fi.length + j) = .ok (.iload_n (Fin.ofNat 4 (j + 1)), 1)) ∧
  decode cc (4 * fi.length + np) = .ok (if virt then .invokevirtual mi else .invokestatic mi, 3) ∧ decode cc (4 * fi.length + np + 3) = .ok (.ireturn, 1)
theorem hv_get (hx : p.tables.exec = Jvm.exec) (hb : c.code = cc) {index j t b : Nat} {vs : List Value} {v : Value} (hf : ∀ U : State, s.WarmedH U.vm → ∃ f : Field, U.vm.fieldReady m.cls index m.cls f ∧ f.isStatic = false ∧ f.slot = j) (ht : 100 ≤ t) (hb9 : h.2.2 b = some (t, vs)) (hv : vs[j]? = some v) (d : decode cc pc = .ok (.getfield index, 3)) (k : V p l e R s m args below meth c D n0 s0 Q h (pc + 3) lv (v :: st)) : V p l e R s m args below meth c D n0 s0 Q h pc lv (.ref b :: st) := by
  intro H locs k' n ls h1 h2 h3 h4 h5 h6 h7 T hT X
  obtain ⟨cell, q1, q2, q3, q4, q5, q6⟩ := h1.2.2.2 b _ hb9
  have hsl : cell.slots = vs.toArray := by
    rcases q6 with ⟨z, -⟩ | ⟨-, z⟩
    · dsimp only at z; omega
    · exact z
  obtain ⟨f, f1, f2, f3⟩ := hf T X.warmed
  obtain ⟨t9, a1, b1⟩ := k H locs k' n ls h1 h2 h3 h4 h5 h6 h7 T hT X
  have hd : decode c.code pc = .ok (.getfield index, 3) := by rw [hb]; exact d
  refine ⟨t9, ?_, b1⟩
  jvm_step X.here [hx, hd, getfield.wp_ready (e := e) (s := T) (c := m.cls) (field := f) (a := b) (rest := st) (cell := cell) (v := v) (f := F0 m pc ls (.ref b :: st)) X.here.top f1 f2 rfl (by rw [hT]; exact q1) q4 (by rw [hsl, f3]; simpa using hv)]
  exact a1
/-- the fields, one behind the other -/
theorem hv_fields (hx : p.tables.exec = Jvm.exec) (hb : c.code = cc) {t b np mi : Nat} {virt : Bool} {vs : List Value} {fi : List (Nat × Nat × Nat)} (hD : lDec cc fi np mi virt) (hf : ∀ U : State, s.WarmedH U.vm → ∀ (j : Nat) (q : Nat × Nat × Nat), fi[j]? = some q → ∃ f : Field, U.vm.fieldReady m.cls q.1 m.cls f ∧ f.isStatic = false ∧ f.slot = j) (ht : 100 ≤ t) (hb9 : h.2.2 b = some (t, vs)) (hlen : vs.length = fi.length) {lv' : aLv}
    (k : V p l e R s m args below meth c D n0 s0 Q h (4 * fi.length) ((0, false, .ref b) :: lv') vs.reverse) : ∀ r j, j + r = fi.length → V p l e R s m args below meth c D n0 s0 Q h (4 * j) ((0, false, .ref b) :: lv') (vs.take j).reverse := by
  intro r
  induction r with
  | zero =>
    intro j hj
    have : j = fi.length := by omega
    subst this
    rw [List.take_of_length_le (by omega)]
    exact k
  | succ r ih =>
    intro j hj
    obtain ⟨d1, d2⟩ := hD.1 j (by omega)
    obtain ⟨q, hq⟩ : ∃ q, fi[j]? = some q := ⟨fi[j]'(by omega), List.getElem?_eq_getElem (by omega)⟩
    obtain ⟨v, hv⟩ : ∃ v, vs[j]? = some v := ⟨vs[j]'(by omega), List.getElem?_eq_getElem (by omega)⟩
    rw [hq] at d2
    have nx := ih (j + 1) (by omega)
    rw [List.take_add_one, hv, List.reverse_append] at nx
    intro H locs k' n ls h1 h2 h3 h4 h5 h6 h7
    have := hv_get (st := (vs.take j).reverse) hx hb (fun U hU => hf U hU j q hq) ht hb9 hv d2 (lv := (0, false, .ref b) :: lv') (by
      have e1 : 4 * j + 1 + 3 = 4 * (j + 1) := by omega
      rw [e1]
      exact nx)
    exact lv_aload_n hx hb d1 rfl (h7.at 0 rfl) (this H locs k' n ls h1 h2 h3 h4 h5 h6 h7)
def intLv (i : Nat) (xs : List Int32) : aLv := match xs with
  | [] => []
  | x :: r => (i, false, .int x) :: intLv (i + 1) r
theorem intLv_at : ∀ (xs : List Int32) (i j : Nat) (x : Int32), xs[j]? = some x → (intLv i xs)[j]? = some (i + j, false, .int x) := by
  intro xs
  induction xs with
  | nil => intro i j x h; simp at h
  | cons y r ih =>
    intro i j x h
    cases j with
    | zero => simp only [List.getElem?_cons_zero, Option.some.injEq] at h; subst h; rfl
    | succ j => have := ih (i + 1) j x h; rw [show i + (j + 1) = i + 1 + j by omega]; exact this
theorem hv_ints (hx : p.tables.exec = Jvm.exec) (hb : c.code = cc) {b np mi : Nat} {virt : Bool} {vs : List Value} {xs : List Int32} {fi : List (Nat × Nat × Nat)} (hD : lDec cc fi np mi virt) (hn : xs.length = np) (h3 : np ≤ 3)
    (k : V p l e R s m args below meth c D n0 s0 Q h (4 * fi.length + np) ((0, false, .ref b) :: intLv 1 xs) ((xs.map Value.int).reverse ++ vs.reverse)) : ∀ r j, j + r = np → V p l e R s m args below meth c D n0 s0 Q h (4 * fi.length + j) ((0, false, .ref b) :: intLv 1 xs) (((xs.map Value.int).take j).reverse ++ vs.reverse) := by
  intro r
  induction r with
  | zero =>
    intro j hj
    have : j = np := by omega
    subst this
    rw [List.take_of_length_le (by simp; omega)]
    exact k
  | succ r ih =>
    intro j hj
    have d1 := hD.2.1 j (by omega)
    obtain ⟨x, hxj⟩ : ∃ x, xs[j]? = some x := ⟨xs[j]'(by omega), List.getElem?_eq_getElem (by omega)⟩
    have nx := ih (j + 1) (by omega)
    rw [List.take_add_one, List.getElem?_map, hxj, Option.map_some, List.reverse_append] at nx
    intro H locs k' n ls h1 h2 h3' h4 h5 h6 h7
    have e2 : ((Fin.ofNat 4 (j + 1) : Fin 4) : Nat) = 1 + j := by
      show (j + 1) % 4 = 1 + j
      omega
    refine lv_iload_n hx hb d1 e2 (h7.at (j + 1) (w := false) (v := .int x) ?_) (nx H locs k' n ls h1 h2 h3' h4 h5 h6 h7)
    show (intLv 1 xs)[j]? = _
    exact intLv_at xs 1 j x hxj
theorem aK0 {y : MethodName} {cc' : ByteArray} {maxL' n9 : Nat} {ret' : Option FieldType} {rf' rl' len : Nat} {as : List Value} {res : aRes} (hV : aVm D s) (hY : aY y cc' maxL' ret' n9) (hM : aM l D y cc' maxL' ret' rf' rl' as h res) (h1 : rf' + 1 ≤ R.frames) (h2 : 8 + (maxL' + 11) + rl' ≤ R.locals) :
    vx_Back l R p e below s args y len 8 (fun A a => A.cells + (D.2.1 - h.1) ≤ R.cells ∧ A.slots + (D.2.2.1 - h.2.1) ≤ R.slots ∧ aPc D as h a A.U) (PostOf (aQc D h res) (res.2.1 - h.1) (res.2.2.1 - h.2.1) (aA D)) (vx_Post (aXC D h res) (res.2.1 - h.1) (res.2.2.1 - h.2.1) (aA D)) := by
  have hT := hV.1
  refine aBack (bytes := cc') (maxL := maxL') (ret := ret') hM aPc.blind h1 h2 (fun w hw a' U hW => ?_) List.mem_cons_self (fun a' U hW => (hT.moved hW).use (g_all hY.2.1))
  rw [List.mem_singleton.mp hw]
  exact (hT.moved hW).use (g_all hY.1)
/-- the target of a made class's entry is the method of that name -/
theorem lm_tgt {U : State} (hG : gT U) {y : MethodName} {cc' : ByteArray} {maxL' n9 : Nat} {ret' : Option FieldType} (hY : aY y cc' maxL' ret' n9) {toy : ClassId} {tk : Class} {t : MethodId} (htoy : U.vm.findClass y.cls = some toy) (htk : U.vm.classes[toy]? = some tk) (hlook : ((methodIn toy y.name y.desc tk.isInterface none).ask { classPath := fun _ => none } U.vm).1 = .ok t) :
    ∃ (mt : Method) (sg : MethodDescriptor), U.methodNamed? y = some t ∧ t.cls = toy ∧ U.vm.method? t = some mt ∧ (∀ z : Method, signaturePolymorphic tk z = false) ∧ mt.sig.parameters.length = n9 := by
  have hcode := hG.use (args := #[]) (g_all hY.1)
  cases hnB : U.methodNamed? y with
  | none => simp [Cond.before, Cond.holds, Cond.value, hnB] at hcode
  | some mB =>
    obtain ⟨methB, cB, hmB, -, -, -, -, -, -, hsigB⟩ := Cond.code_spec hnB hcode
    have hfT : U.vm.findClass y.cls = some mB.cls := findClass_of_methodNamed hnB
    cases htoy.symm.trans hfT
    obtain ⟨kT', hkT', hnameT⟩ := className_of_methodNamed hnB
    cases htk.symm.trans hkT'
    have htB : t = mB := by
      have h1 : U.methodFound? y.cls y.name y.desc = some mB := State.methodFound?_of_named hnB hY.2.2.1
      simp only [State.methodFound?, hfT, htk, Option.bind_eq_bind, Option.bind_some] at h1
      rw [hlook] at h1
      exact Option.some.inj h1
    subst htB
    refine ⟨methB, methB.sig, rfl, rfl, hmB, fun z => by simp [signaturePolymorphic, hnameT, hY.2.2.1.1, hY.2.2.1.2], ?_⟩
    have := hY.len _ hsigB
    exact this.symm
end ALC
