/-! ===== making cells; casts; statics; the ends of a walk ===== -/
set_option maxRecDepth 100000
def aMk (D : aD) (h : aH) (o : aO) : Option aH := if h.1 + 1 ≤ D.2.1 ∧ h.2.1 + o.2.length ≤ D.2.2.1 then some (aNew h o) else none
theorem aMk_eq {D : aD} {h h' : aH} {o : aO} (e : aMk D h o = some h') : h.1 + 1 ≤ D.2.1 ∧ h.2.1 + o.2.length ≤ D.2.2.1 ∧ h' = aNew h o := by
  unfold aMk at e
  split at e
  · rename_i hh
    exact ⟨hh.1, hh.2, (Option.some.inj e).symm⟩
  · cases e
/-- a new array of n cells -/
def aMkA (D : aD) (h : aH) (t : Nat) (n : Int32) (v : Value) : Option aH := if ¬ n < 0 ∧ n.toNatClampNeg ≤ 1000000 then aMk D h (t, List.replicate n.toNatClampNeg v) else none
/-- an array of n new arrays of k cells -/
def aGrid (h : aH) (t t' n k : Nat) (v : Value) : aH := (h.1 + 1 + n, h.2.1 + n + n * k, fun q => if q = h.1 then some (t, (List.range n).map fun j => .ref (h.1 + 1 + j)) else if h.1 < q ∧ q ≤ h.1 + n then some (t', List.replicate k v) else h.2.2 q)
def aMk2 (D : aD) (h : aH) (t t' : Nat) (n k : Int32) (v : Value) : Option aH := if ¬ n < 0 ∧ ¬ k < 0 ∧ n.toNatClampNeg ≤ 1000000 ∧ k.toNatClampNeg ≤ 1000000 ∧ h.1 + 1 + n.toNatClampNeg ≤ D.2.1 ∧ h.2.1 + n.toNatClampNeg + n.toNatClampNeg * k.toNatClampNeg ≤ D.2.2.1 then some (aGrid h t t' n.toNatClampNeg k.toNatClampNeg v) else none
/-- a reference to a cell of a tag that the list holds, or null -/
def aCast (h : aH) (ts : List Nat) (r : Option Nat) : Option Unit := match r with
  | none => some ()
  | some a => (h.2.2 a).bind fun o => if o.1 ∈ ts then some () else none
/-- a reference to an object of a class -/
def aIs (h : aH) (t : Nat) (r : Option Nat) : Option Nat := (aCell h r).bind fun q => if q.2.1 = t then some q.1 else none
theorem aIs_eq {h : aH} {t : Nat} {r : Option Nat} {a : Nat} (e : aIs h t r = some a) : r = some a ∧ ∃ fs, h.2.2 a = some (t, fs) := by
  unfold aIs at e
  obtain ⟨⟨a', t', fs⟩, e1, e2⟩ := Option.bind_eq_some_iff.mp e
  obtain ⟨h1, h2⟩ := aCell_eq e1
  dsimp only at e2 h1 h2
  split at e2
  · rename_i ht
    cases e2
    subst ht
    exact ⟨h1, fs, h2⟩
  · cases e2
/-- the class's number of a tag, by name -/
def aNmT (t : Nat) (nm : String) : Prop := (∃ (T : u_T) (N : Nat), aCl[t]? = some (nm, T, N)) ∨ ∃ ty, aTy t = some ty ∧ "[" ++ ty.toString = nm
theorem aNmT.cls {D : aD} {s : State} (hV : aVm D s) {t : Nat} {nm : String} (h : aNmT t nm) : s.vm.findClass nm = some (D.1.1 t) ∧ ∃ k, s.vm.classes[D.1.1 t]? = some k := by
  rcases h with ⟨T, N, h⟩ | ⟨ty, h, rfl⟩
  · obtain ⟨-, h1, k, h2, -⟩ := hV.2.1 t _ h
    exact ⟨h1, k, h2⟩
  · obtain ⟨k, comp, h1, h2, h3, -⟩ := hV.2.2.1 t ty h
    exact ⟨h3, k, h1⟩
theorem aAt.recv {D : aD} {s : State} {H : Heap} (hV : aVm D s) {t : Nat} {nm : String} (h : aNmT t nm) {a : Nat} {fs : List Value} (ha : aAt D a (t, fs) H) : ∃ cell : Cell, H[a]? = some cell ∧ cell.vm.isStatics = false ∧ s.vm.findClass nm = some cell.cls := by
  obtain ⟨cell, q1, q2, q3, -⟩ := ha
  exact ⟨cell, q1, q3, by rw [q2]; exact (h.cls hV).1⟩
section AMK
variable {p : Program} {l : Launch} {e : Env} {R : Room} {s : State} {m : MethodId} {args : Array Value} {below : List Frame} {meth : Method} {c : Code} {D : aD} {n0 s0 : Nat} {Q : State → Prop}
variable {own : String} {cc : ByteArray} {rf rl nL : Nat} {h h' : aH} {pc : Nat} {lv : aLv} {st : List Value}
theorem v_new (C : aC p l R s m meth c D n0 s0 own cc rf rl nL) {C9 : String} {T : u_T} {N t index : Nat} {fs : List Value} (hc : aCl[t]? = some (C9, T, N)) (hin : ∀ w ∈ u_ws C9 T N, w ∈ lw_all) (ty : Nat → FieldType) (hty : ∀ k, k < N → parseFieldDescriptor (T k).2.2.1 = some (ty k)) (hcl : Cond.classLink own index C9 ∈ lw_all) (hinst : Cond.instantiable C9 N ∈ lw_all) (hini : Cond.initialized C9 ∈ lw_all)
    (hfs : ∀ j, j < N → defaultValue (ty j) = vp_V fs j) (hl : fs.length = N) (hf : aMk D h (t, fs) = some h') (d : decode cc pc = .ok (.new index, 3)) (k : V p l e R s m args below meth c D n0 s0 Q h' (pc + 3) lv (va_rf (some h.1) :: st)) : V p l e R s m args below meth c D n0 s0 Q h pc lv st := by
  intro H locs k' n ls h1 h2 h3 h4 h5 h6 h7
  obtain ⟨f1, f2, rfl⟩ := aMk_eq hf
  dsimp only at f2
  have hts : ∀ w ∈ lw_all, w.before args s = true := fun w hw => C.2.2.2.1.1.use (g_all hw)
  have hKn := C.2.2.2.1.2.1 t _ hc
  have g1 := C.2.2.2.2.2.2.2.1
  have g2 := C.2.2.2.2.2.2.2.2.1
  refine W.newcK C.1 C.2.1 C.2.2.1 (hts _ hcl) (hts _ hinst) (hts _ hini) rfl d (by omega) (by omega) hKn.2.1 (h := h.1) h1.1 fun H1 kC hkC e1 z1 o1 => ?_
  have hob := (u_born ty hts hin hKn hkC e1 hty).to hfs
  obtain ⟨cell, q1, q2, q3, q4⟩ := hob
  have e0 : cell = blank (D.1.1 t) kC := Option.some.inj (q1.symm.trans e1)
  have ht : t < 100 := by
    have : t < aCl.length := (List.getElem?_eq_some_iff.mp hc).1
    exact Nat.lt_of_lt_of_le this (by decide)
  refine k H1 locs (k' + 1) (n + N) ls (h1.new (by rw [z1, h1.1]) (fun q hq => o1 q (by rw [← h1.1]; exact hq)) f1 f2 ?_) (h2.new (by rw [z1, h1.1]) (fun q hq => o1 q (by rw [← h1.1]; exact hq))) (by have := h1.1; omega) h4 (by show k' + 1 + n0 ≤ h.1 + 1; omega) (by show n + N + s0 ≤ h.2.1 + fs.length; omega) h7
  rw [h1.1]
  exact ⟨cell, q1, q2, by rw [q3]; rfl, by rw [q3]; exact (fun z => by cases z), fun _ => ⟨q3, fun z => by dsimp only at z; omega⟩, Or.inl ⟨ht, _, hc, hl, q4⟩⟩
theorem v_newarray (C : aC p l R s m meth c D n0 s0 own cc rf rl nL) {atype : ArrayType} {ty : FieldType} {t : Nat} {n9 : Int32} {v : Value} (harr : Cond.arrayClass ty ∈ lw_all) (hty : newarray.typeOf atype = ty) (ht : aTy t = some ty) (ht1 : 100 ≤ t) (hcb : componentBytes ty ≤ 8) (hv : defaultValue ty = v) (hf : aMkA D h t n9 v = some h') (d : decode cc pc = .ok (.newarray atype, 2)) (k : V p l e R s m args below meth c D n0 s0 Q h' (pc + 2) lv (va_rf (some h.1) :: st)) : V p l e R s m args below meth c D n0 s0 Q h pc lv (.int n9 :: st) := by
  intro H locs k' n ls h1 h2 h3 h4 h5 h6 h7
  unfold aMkA at hf
  split at hf
  case isFalse => cases hf
  rename_i hn
  obtain ⟨f1, f2, rfl⟩ := aMk_eq hf
  simp only [List.length_replicate] at f2
  subst hty
  have g1 := C.2.2.2.2.2.2.2.1
  have g2 := C.2.2.2.2.2.2.2.2.1
  have hb : n9.toNatClampNeg * componentBytes (newarray.typeOf atype) ≤ 536870912 := Nat.le_trans (Nat.mul_le_mul hn.2 hcb) (by decide)
  refine W.newa C.1 C.2.1 (C.2.2.2.1.1.use (g_all harr)) rfl d rfl hn.1 hb (by omega) (by omega) fun cA kA comp e1 e2 e3 => ?_
  obtain ⟨kA', comp', w1, w2, w3, -⟩ := C.2.2.2.1.2.2.1 t _ ht
  have ecA : cA = D.1.1 t := Option.some.inj (e1.symm.trans w3)
  subst ecA
  generalize hH1 : H.push ({ cls := D.1.1 t, slots := Array.replicate n9.toNatClampNeg (defaultValue (newarray.typeOf atype)), vm := .none } : Cell) = H1
  have z1 : H1.size = H.size + 1 := by rw [← hH1, Array.size_push]
  have x1 : H1[H.size]? = some ({ cls := D.1.1 t, slots := (List.replicate n9.toNatClampNeg v).toArray, vm := .none } : Cell) := by rw [← hH1, Array.getElem?_push_size, hv]; simp
  have o1 : ∀ q : Nat, q < H.size → H1[q]? = H[q]? := fun q hq => by rw [← hH1, Array.getElem?_push, if_neg (Nat.ne_of_lt hq)]
  rw [h1.1]
  refine k H1 locs (k' + 1) (n + n9.toNatClampNeg) ls (h1.new z1 o1 f1 (by simpa using f2) ?_) (h2.new z1 o1) (by omega) h4 (by show k' + 1 + n0 ≤ h.1 + 1; omega) (by show n + n9.toNatClampNeg + s0 ≤ h.2.1 + (List.replicate n9.toNatClampNeg v).length; rw [List.length_replicate]; omega) h7
  exact ⟨_, x1, rfl, rfl, (fun z => by cases z), fun _ => ⟨rfl, fun _ => rfl⟩, Or.inr ⟨ht1, rfl⟩⟩
theorem v_anewarray (C : aC p l R s m meth c D n0 s0 own cc rf rl nL) {C9 : String} {index : Nat} {n9 : Int32} {t : Nat} (ht : aTy t = some (.object C9)) (ht1 : 100 ≤ t) (hcl : Cond.classLink own index C9 ∈ lw_all) (hov : Cond.arrayOver (.object C9) ∈ lw_tbl) (hf : aMkA D h t n9 .null = some h') (d : decode cc pc = .ok (.anewarray index, 3)) (k : V p l e R s m args below meth c D n0 s0 Q h' (pc + 3) lv (va_rf (some h.1) :: st)) : V p l e R s m args below meth c D n0 s0 Q h pc lv (.int n9 :: st) := by
  intro H locs k' n ls h1 h2 h3 h4 h5 h6 h7
  unfold aMkA at hf
  split at hf
  case isFalse => cases hf
  rename_i hn
  obtain ⟨f1, f2, rfl⟩ := aMk_eq hf
  simp only [List.length_replicate] at f2
  have g1 := C.2.2.2.2.2.2.2.1
  have g2 := C.2.2.2.2.2.2.2.2.1
  refine W.anew C.1 C.2.1 C.2.2.1 (C.2.2.2.1.1.use (g_all hcl)) (gN hov rfl C.2.2.2.1.1) rfl d rfl hn.1 (by omega) (by omega) (by omega) fun cA kA comp e1 e2 e3 e4 => ?_
  obtain ⟨kA', comp', w1, w2, w3, -⟩ := C.2.2.2.1.2.2.1 t _ ht
  have ecA : cA = D.1.1 t := Option.some.inj (e1.symm.trans w3)
  subst ecA
  generalize hH1 : H.push ({ cls := D.1.1 t, slots := Array.replicate n9.toNatClampNeg .null, vm := .none } : Cell) = H1
  have z1 : H1.size = H.size + 1 := by rw [← hH1, Array.size_push]
  have x1 : H1[H.size]? = some ({ cls := D.1.1 t, slots := (List.replicate n9.toNatClampNeg Value.null).toArray, vm := .none } : Cell) := by rw [← hH1, Array.getElem?_push_size]; simp
  have o1 : ∀ q : Nat, q < H.size → H1[q]? = H[q]? := fun q hq => by rw [← hH1, Array.getElem?_push, if_neg (Nat.ne_of_lt hq)]
  rw [h1.1]
  refine k H1 locs (k' + 1) (n + n9.toNatClampNeg) ls (h1.new z1 o1 f1 (by simpa using f2) ?_) (h2.new z1 o1) (by omega) h4 (by show k' + 1 + n0 ≤ h.1 + 1; omega) (by show n + n9.toNatClampNeg + s0 ≤ h.2.1 + (List.replicate n9.toNatClampNeg Value.null).length; rw [List.length_replicate]; omega) h7
  exact ⟨_, x1, rfl, rfl, (fun z => by cases z), fun _ => ⟨rfl, fun _ => rfl⟩, Or.inr ⟨ht1, rfl⟩⟩
theorem v_anewarrayA (C : aC p l R s m meth c D n0 s0 own cc rf rl nL) {t9 : FieldType} {index : Nat} {n9 : Int32} {t : Nat} {nm : String} (hnm : (FieldType.array t9).toString = nm) (ht : aTy t = some (.array t9)) (ht1 : 100 ≤ t) (hcl : Cond.classLink own index nm ∈ lw_all) (hov : Cond.arrayOver (.array t9) ∈ lw_tbl) (hf : aMkA D h t n9 .null = some h') (d : decode cc pc = .ok (.anewarray index, 3)) (k : V p l e R s m args below meth c D n0 s0 Q h' (pc + 3) lv (va_rf (some h.1) :: st)) : V p l e R s m args below meth c D n0 s0 Q h pc lv (.int n9 :: st) := by
  intro H locs k' n ls h1 h2 h3 h4 h5 h6 h7
  unfold aMkA at hf
  split at hf
  case isFalse => cases hf
  rename_i hn
  obtain ⟨f1, f2, rfl⟩ := aMk_eq hf
  simp only [List.length_replicate] at f2
  have g1 := C.2.2.2.2.2.2.2.1
  have g2 := C.2.2.2.2.2.2.2.2.1
  refine W.anewA C.1 C.2.1 C.2.2.1 (by rw [hnm]; exact C.2.2.2.1.1.use (g_all hcl)) (gN hov rfl C.2.2.2.1.1) rfl d rfl hn.1 (by omega) (by omega) (by omega) fun cA kA comp e1 e2 e3 e4 => ?_
  obtain ⟨kA', comp', w1, w2, w3, -⟩ := C.2.2.2.1.2.2.1 t _ ht
  have ecA : cA = D.1.1 t := Option.some.inj (e1.symm.trans w3)
  subst ecA
  generalize hH1 : H.push ({ cls := D.1.1 t, slots := Array.replicate n9.toNatClampNeg .null, vm := .none } : Cell) = H1
  have z1 : H1.size = H.size + 1 := by rw [← hH1, Array.size_push]
  have x1 : H1[H.size]? = some ({ cls := D.1.1 t, slots := (List.replicate n9.toNatClampNeg Value.null).toArray, vm := .none } : Cell) := by rw [← hH1, Array.getElem?_push_size]; simp
  have o1 : ∀ q : Nat, q < H.size → H1[q]? = H[q]? := fun q hq => by rw [← hH1, Array.getElem?_push, if_neg (Nat.ne_of_lt hq)]
  rw [h1.1]
  refine k H1 locs (k' + 1) (n + n9.toNatClampNeg) ls (h1.new z1 o1 f1 (by simpa using f2) ?_) (h2.new z1 o1) (by omega) h4 (by show k' + 1 + n0 ≤ h.1 + 1; omega) (by show n + n9.toNatClampNeg + s0 ≤ h.2.1 + (List.replicate n9.toNatClampNeg Value.null).length; rw [List.length_replicate]; omega) h7
  exact ⟨_, x1, rfl, rfl, (fun z => by cases z), fun _ => ⟨rfl, fun _ => rfl⟩, Or.inr ⟨ht1, rfl⟩⟩
theorem outer_list (c9 : ClassId) (N h0 : Nat) : ∀ i, i ≤ N → Jvm.Free.Multi.outerC c9 N h0 i = { cls := c9, slots := ((List.range i).map (fun j => Value.ref (h0 + 1 + j)) ++ List.replicate (N - i) Value.null).toArray, vm := .none } := by
  intro i
  induction i with
  | zero => intro _; simp [Jvm.Free.Multi.outerC]
  | succ i ih =>
    intro hi
    rw [Jvm.Free.Multi.outerC, ih (by omega)]
    have e : List.replicate (N - i) Value.null = .null :: List.replicate (N - (i + 1)) .null := by
      rw [show N - i = (N - (i + 1)) + 1 by omega, List.replicate_succ]
    simp only [Cell.setSlot, e]
    congr 1
    apply Array.toList_inj.mp
    simp [List.range_succ, List.set_append]
theorem v_multi (C : aC p l R s m meth c D n0 s0 own cc rf rl nL) {t9 : FieldType} {index : Nat} {n9 k9 : Int32} {t t' : Nat} {nm : String} {v : Value} (hnm : "[" ++ (FieldType.array t9).toString = nm) (hnm2 : (FieldType.array t9).toString = "[" ++ t9.toString) (ht : aTy t = some (.array t9)) (ht1 : 100 ≤ t) (ht' : aTy t' = some t9) (ht2 : 100 ≤ t') (hcl : Cond.classLink own index nm ∈ lw_all) (hov : Cond.arrayOver (.array t9) ∈ lw_tbl) (harr : Cond.arrayClass t9 ∈ lw_all) (hcb : componentBytes t9 ≤ 8) (hdf : fits t9 (defaultValue t9) = true) (hdd : (defaultValue t9).isDefault = true) (hv : defaultValue t9 = v) (hf : aMk2 D h t t' n9 k9 v = some h') (d : decode cc pc = .ok (.multianewarray index 2, 4)) (k : V p l e R s m args below meth c D n0 s0 Q h' (pc + 4) lv (va_rf (some h.1) :: st)) : V p l e R s m args below meth c D n0 s0 Q h pc lv (.int k9 :: .int n9 :: st) := by
  intro H locs k' n ls h1 h2 h3 h4 h5 h6 h7
  unfold aMk2 at hf
  split at hf
  case isFalse => cases hf
  rename_i hn
  obtain ⟨g1, g2, g3, g4, g5, g6⟩ := hn
  cases hf
  have r1 := C.2.2.2.2.2.2.2.1
  have r2 := C.2.2.2.2.2.2.2.2.1
  intro T hT X
  obtain ⟨vm₁, cA, comp, hW1, hfA, hfC, hO, hI, X1, step⟩ := X.multianewarray2F C.1 (own := own) (index := index) (ty := t9) C.2.2.1 (by rw [hnm]; exact C.2.2.2.1.1.use (g_all hcl)) (gN hov rfl C.2.2.2.1.1) (C.2.2.2.1.1.use (g_all harr)) (g := F0 m pc ls (.int k9 :: .int n9 :: st)) rfl (by rw [C.2.1]; exact d) rfl g1 g2 (by omega) (Nat.le_trans (Nat.mul_le_mul g4 hcb) (by decide)) (by omega) hdf hdd (by omega) (by omega)
  obtain ⟨kA', comp', w1, w2, w3, -⟩ := C.2.2.2.1.2.2.1 t _ ht
  have ecA : cA = D.1.1 t := Option.some.inj (hfA.symm.trans w3)
  obtain ⟨kB', compB', y1, y2, y3, -⟩ := C.2.2.2.1.2.2.1 t' _ ht'
  have ecB : comp = D.1.1 t' := Option.some.inj ((by rw [← hnm2]; exact hfC : s.vm.findClass ("[" ++ t9.toString) = some comp).symm.trans y3)
  subst ecA
  subst ecB
  generalize hT2 : Jvm.Free.Multi.fill (T.setVm vm₁) (D.1.1 t) (D.1.1 t') n9.toNatClampNeg k9.toNatClampNeg (defaultValue t9) n9.toNatClampNeg = T2 at X1 step
  have hh : (T.setVm vm₁).heap = H := hT
  obtain ⟨z1, z2, -, -⟩ := Jvm.Free.Multi.fill_facts (T.setVm vm₁) (D.1.1 t) (D.1.1 t') n9.toNatClampNeg k9.toNatClampNeg (defaultValue t9) n9.toNatClampNeg
  have z3 := fun (a : Nat) (ha : a < H.size) => Jvm.Free.Multi.fill_old (T.setVm vm₁) (D.1.1 t) (D.1.1 t') n9.toNatClampNeg k9.toNatClampNeg (defaultValue t9) (a := a) (by rw [hh]; exact ha) n9.toNatClampNeg
  have z4 := Jvm.Free.Multi.fill_inner (T.setVm vm₁) (D.1.1 t) (D.1.1 t') n9.toNatClampNeg k9.toNatClampNeg (defaultValue t9) n9.toNatClampNeg
  rw [hT2, hh] at z1 z2
  simp only [hT2, hh] at z3 z4
  rw [outer_list _ _ _ _ (Nat.le_refl _)] at z2
  have hsz := h1.1
  have hcells : ∀ (b : Nat) (o' : aO), (aGrid h t t' n9.toNatClampNeg k9.toNatClampNeg v).2.2 b = some o' → aAt D b o' T2.heap := by
    intro b o' hb
    simp only [aGrid] at hb
    by_cases hq : b = h.1
    · rw [if_pos hq] at hb
      cases hb
      rw [hq, ← hsz]
      refine ⟨_, z2, rfl, rfl, (fun z => by cases z), fun _ => ⟨rfl, fun _ => ?_⟩, Or.inr ⟨ht1, ?_⟩⟩
      · simp
      · simp
    · rw [if_neg hq] at hb
      by_cases hq2 : h.1 < b ∧ b ≤ h.1 + n9.toNatClampNeg
      · rw [if_pos hq2] at hb
        cases hb
        have e := z4 (b - (h.1 + 1)) (by omega)
        rw [hsz, show h.1 + 1 + (b - (h.1 + 1)) = b by omega] at e
        refine ⟨_, e, rfl, rfl, (fun z => by cases z), fun _ => ⟨rfl, fun _ => ?_⟩, Or.inr ⟨ht2, ?_⟩⟩
        · simp [Jvm.Free.Multi.innerC, hv]
        · simp [Jvm.Free.Multi.innerC, hv]
      · rw [if_neg hq2] at hb
        have := h1.2.2.2 b o' hb
        exact this.kept (z3 b this.lt)
  obtain ⟨tt, a1, b1⟩ := k T2.heap locs (k' + 1 + n9.toNatClampNeg) (n + n9.toNatClampNeg + n9.toNatClampNeg * k9.toNatClampNeg) ls
    ⟨by rw [z1, hsz]; rfl, g5, g6, hcells⟩ ⟨by rw [z1]; exact Nat.le_trans h2.1 (by omega), fun q hq => by rw [z3 q (Nat.lt_of_lt_of_le hq h2.1)]; exact h2.2 q hq⟩ (by rw [z1]; omega) h4 (by show k' + 1 + n9.toNatClampNeg + n0 ≤ h.1 + 1 + n9.toNatClampNeg; omega) (by show n + n9.toNatClampNeg + n9.toNatClampNeg * k9.toNatClampNeg + s0 ≤ h.2.1 + n9.toNatClampNeg + n9.toNatClampNeg * k9.toNatClampNeg; omega) h7 T2 rfl X1
  refine ⟨tt, step tt ?_, b1⟩
  have e9 : va_rf (some h.1) = .ref T.heap.size := by rw [hT, hsz]; rfl
  rw [e9] at a1
  exact a1
theorem v_cast (C : aC p l R s m meth c D n0 s0 own cc rf rl nL) {index : Nat} {nm : String} {ts : List Nat} {r : Option Nat} (hcl : Cond.classLink own index nm ∈ lw_all) (hts : ∀ t ∈ ts, aNmT t nm ∨ ∃ C9, aNmT t C9 ∧ Cond.castable C9 nm ∈ lw_tbl) (hf : aCast h ts r = some ()) (d : decode cc pc = .ok (.checkcast index, 3)) (k : V p l e R s m args below meth c D n0 s0 Q h (pc + 3) lv (va_rf r :: st)) : V p l e R s m args below meth c D n0 s0 Q h pc lv (va_rf r :: st) := by
  intro H locs k' n ls h1 h2 h3 h4 h5 h6 h7
  have kk := k H locs k' n ls h1 h2 h3 h4 h5 h6 h7
  have hV := C.2.2.2.1
  cases r with
  | none => exact lv_castN C.1 C.2.1 d kk
  | some a =>
    simp only [aCast] at hf
    obtain ⟨⟨t, fs⟩, ha, hf⟩ := Option.bind_eq_some_iff.mp hf
    dsimp only at hf
    split at hf
    case isFalse => cases hf
    rename_i ht
    rcases hts t ht with hn | ⟨C9, hn, hw⟩
    · obtain ⟨cell, q1, q2, q3⟩ := (h1.2.2.2 a _ ha).recv hV hn
      intro T hT X
      obtain ⟨vm', X', stp⟩ := X.checkcastYes C.1 C.2.2.1 (hV.1.use (g_all hcl)) (by rw [hT]; exact q1) q2 q3 (va_asg _ _) (g := F0 m pc ls (va_rf (some a) :: st)) rfl rfl (by rw [C.2.1]; exact d)
      obtain ⟨tt, a1, b1⟩ := kk (T.setVm vm') hT X'
      exact ⟨tt, stp tt a1, b1⟩
    · exact va_castY C.1 C.2.1 C.2.2.1 (hV.1.use (g_all hcl)) (gN hw rfl hV.1) ((h1.2.2.2 a _ ha).recv hV hn) d kk
theorem v_getstatic (C : aC p l R s m meth c D n0 s0 own cc rf rl nL) {q9 : String × String × String} {index k9 : Nat} (hk : aSt[k9]? = some q9) (hl : Cond.fieldLink own index q9.1 q9.2.1 q9.2.2 ∈ lw_all) (d : decode cc pc = .ok (.getstatic index, 3)) (k : V p l e R s m args below meth c D n0 s0 Q h (pc + 3) lv (D.2.2.2.2 k9 :: st)) : V p l e R s m args below meth c D n0 s0 Q h pc lv st := by
  intro H locs k' n ls h1 h2 h3 h4 h5 h6 h7
  obtain ⟨cf, kf, fi, f, a, cell, w1, w2, w3, w4, w5, w6, w7, w8⟩ := C.2.2.2.1.2.2.2.1 k9 _ hk
  have ha : a < b0 D := (Array.getElem?_eq_some_iff.mp w5).1
  exact W.gets C.1 C.2.1 C.2.2.1 (C.2.2.2.1.1.use (g_all hl)) w1 w2 w3 w4 (by rw [h2.2 a ha]; exact w5) (by intro z; rw [z] at w6; cases w6) w7 rfl d (k H locs k' n ls h1 h2 h3 h4 h5 h6 h7)
theorem v_objInit (C : aC p l R s m meth c D n0 s0 own cc rf rl nL) {index : Nat} {r : Option Nat} {a : Nat} (hr : r = some a) (hl : Cond.methodLink own index Lib.objectInit ∈ lw_all) (hi : Cond.instanceMethod Lib.objectInit ∈ lw_all) (hco : Cond.code Lib.objectInit ⟨#[0xb1]⟩ 1 none ∈ lw_all) (hrf : 1 ≤ rf) (hrl : (st.map fun v => v.category).sum + 12 ≤ rl) (d : decode cc pc = .ok (.invokespecial index, 3)) (k : V p l e R s m args below meth c D n0 s0 Q h (pc + 3) lv st) : V p l e R s m args below meth c D n0 s0 Q h pc lv (va_rf r :: st) := by
  intro H locs k' n ls h1 h2 h3 h4 h5 h6 h7
  subst hr
  have hT := C.2.2.2.1.1
  exact W.objInit C.1 C.2.1 C.2.2.1 (hT.use (g_all hl)) (hT.use (g_all hi)) (hT.use (g_all hco)) rfl h7.1.1 rfl d (Nat.le_trans hrf C.2.2.2.2.2.1) (Nat.le_trans (by show 2 * 0 + _ + 12 ≤ rl; omega) C.2.2.2.2.2.2.1) (k H locs k' n ls h1 h2 h3 h4 h5 h6 h7)
/-! the ends -/
theorem v_ret_of (C : aC p l R s m meth c D n0 s0 own cc rf rl nL) {h0 : aH} {res : aRes} (hn0 : n0 = h0.1) (hs0 : s0 = h0.2.1) {r : Option Value} (hres : res = (.inr r, h)) {st1 : List Value}
    (go : ∀ (H : Heap) (locs : List Loc) (k n : Nat) (ls : Array Slot), (∀ t : State, t.heap = H → s.WarmedH t.vm → aQc D h0 res args s (.returned r) t) → (∀ q ∈ locs, aA D q.base) → W p l e R s m args below meth c H locs k n (MQ below (aQc D h0 res) args s k n (aA D)) (F0 m pc ls st1)) : V p l e R s m args below meth c D n0 s0 (aEnd D below args s h0 res) h pc lv st1 := by
  intro H locs k' n ls h1 h2 h3 h4 h5 h6 h7
  subst hres
  refine vx_ret ?_
  refine W.widen (k := h.1 - h0.1) (n := h.2.1 - h0.2.1) (by omega) (by omega) ?_
  have := go H locs (h.1 - h0.1) (h.2.1 - h0.2.1) ls (fun t ht hW => ⟨r, rfl, rfl, by rw [ht]; exact h1, by rw [ht]; exact h2, by rw [ht]; exact h3, by show h0.1 ≤ h.1; omega, by show h0.2.1 ≤ h.2.1; omega⟩) h4
  exact this
theorem v_ireturn (C : aC p l R s m meth c D n0 s0 own cc rf rl nL) {h0 : aH} {res : aRes} {x : Int32} (hn0 : n0 = h0.1) (hs0 : s0 = h0.2.1) (hr : meth.sig.returnType = some .int) (hres : res = (.inr (some (.int x)), h)) (d : decode cc pc = .ok (.ireturn, 1)) : V p l e R s m args below meth c D n0 s0 (aEnd D below args s h0 res) h pc lv [.int x] :=
  v_ret_of C hn0 hs0 hres fun H locs k n ls hq hf => W.iret C.1 C.2.1 hr hq hf d C.2.2.2.2.1
theorem v_zreturn (C : aC p l R s m meth c D n0 s0 own cc rf rl nL) {h0 : aH} {res : aRes} {x : Int32} (hn0 : n0 = h0.1) (hs0 : s0 = h0.2.1) (hr : meth.sig.returnType = some .boolean) (hx : x = 0 ∨ x = 1) (hres : res = (.inr (some (.int x)), h)) (d : decode cc pc = .ok (.ireturn, 1)) : V p l e R s m args below meth c D n0 s0 (aEnd D below args s h0 res) h pc lv [.int x] :=
  v_ret_of C hn0 hs0 hres fun H locs k n ls hq hf => W.zret C.1 C.2.1 hr (by rcases hx with rfl | rfl <;> rfl) hq hf d C.2.2.2.2.1
theorem v_lreturn (C : aC p l R s m meth c D n0 s0 own cc rf rl nL) {h0 : aH} {res : aRes} {x : Int64} (hn0 : n0 = h0.1) (hs0 : s0 = h0.2.1) (hr : meth.sig.returnType = some .long) (hres : res = (.inr (some (.long x)), h)) (d : decode cc pc = .ok (.lreturn, 1)) : V p l e R s m args below meth c D n0 s0 (aEnd D below args s h0 res) h pc lv [.long x] :=
  v_ret_of C hn0 hs0 hres fun H locs k n ls hq hf => W.lret C.1 C.2.1 hr hq hf d C.2.2.2.2.1
theorem v_freturn (C : aC p l R s m meth c D n0 s0 own cc rf rl nL) {h0 : aH} {res : aRes} {x : UInt32} (hn0 : n0 = h0.1) (hs0 : s0 = h0.2.1) (hr : meth.sig.returnType = some .float) (hres : res = (.inr (some (.float x)), h)) (d : decode cc pc = .ok (.freturn, 1)) : V p l e R s m args below meth c D n0 s0 (aEnd D below args s h0 res) h pc lv [.float x] :=
  v_ret_of C hn0 hs0 hres fun H locs k n ls hq hf => W.fret C.1 C.2.1 hr hq hf d C.2.2.2.2.1
theorem v_dreturn (C : aC p l R s m meth c D n0 s0 own cc rf rl nL) {h0 : aH} {res : aRes} {x : UInt64} (hn0 : n0 = h0.1) (hs0 : s0 = h0.2.1) (hr : meth.sig.returnType = some .double) (hres : res = (.inr (some (.double x)), h)) (d : decode cc pc = .ok (.dreturn, 1)) : V p l e R s m args below meth c D n0 s0 (aEnd D below args s h0 res) h pc lv [.double x] :=
  v_ret_of C hn0 hs0 hres fun H locs k n ls hq hf => W.dret C.1 C.2.1 hr hq hf d C.2.2.2.2.1
theorem v_return (C : aC p l R s m meth c D n0 s0 own cc rf rl nL) {h0 : aH} {res : aRes} (hn0 : n0 = h0.1) (hs0 : s0 = h0.2.1) (hr : meth.sig.returnType = none) (hres : res = (.inr none, h)) (d : decode cc pc = .ok (.return_, 1)) : V p l e R s m args below meth c D n0 s0 (aEnd D below args s h0 res) h pc lv [] :=
  v_ret_of C hn0 hs0 hres fun H locs k n ls hq hf => W.vret C.1 C.2.1 hr hq hf d C.2.2.2.2.1
theorem v_areturn (C : aC p l R s m meth c D n0 s0 own cc rf rl nL) {h0 : aH} {res : aRes} {x : Option Nat} {rt : FieldType} (hn0 : n0 = h0.1) (hs0 : s0 = h0.2.1) (hr : meth.sig.returnType = some rt) (hrt : (∃ n, rt = .object n) ∨ ∃ t, rt = .array t) (hres : res = (.inr (some (va_rf x)), h)) (d : decode cc pc = .ok (.areturn, 1)) : V p l e R s m args below meth c D n0 s0 (aEnd D below args s h0 res) h pc lv [va_rf x] :=
  v_ret_of C hn0 hs0 hres fun H locs k n ls hq hf => W.aret C.1 C.2.1 hr hrt (by cases x with | none => exact Or.inl rfl | some a => exact Or.inr ⟨a, rfl⟩) hq hf d C.2.2.2.2.1
end AMK
