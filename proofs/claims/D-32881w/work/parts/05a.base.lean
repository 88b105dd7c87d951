/-! ===== the abstract heap: a cell is its tag (a class, or a kind of array) and what it holds; a heap: its size, the slots made, its cells ===== -/
set_option maxRecDepth 100000
abbrev aO : Type := Nat × List Value
abbrev aH : Type := Nat × Nat × (Nat → Option aO)
/-- what stays: class numbers and slot places; the room's two ends; the heap at the start; what the statics hold -/
abbrev aD : Type := va_G × Nat × Nat × Heap × (Nat → Value)
def b0 (D : aD) : Nat := D.2.2.2.1.size
/-- the classes by tags 0.. -/
def aCl : List vw_C := [(RX1, TX1, 17), (RX2, TX2, 20), (RX3, TX3, 13), (RX4, TX4, 3), (RX5, TX5, 7), (RX6, TX6, 3), (RX7, TX7, 3), (RX8, TX8, 7), (RX9, TX9, 8), (RX10, TX10, 8), (RX11, TX11, 2), (RX12, TX12, 2), (RX13, TX13, 3), (RX14, TX14, 4), (RX15, TX15, 1), (RJ2, TJ2, 3), (RJ4, TJ4, 9), (RJ34, TJ34, 6), (RJ35, TJ35, 1), (RJ22, TJ22, 1), (RJ28, TJ28, 4), (RJ39, TJ39, 4), (RJ19, TJ19, 1)]
/-- the kinds of array by tags 100.. -/
def aTy : Nat → Option FieldType := fun t => match t with
  | 100 => some .int
  | 101 => some .long
  | 102 => some .boolean
  | 103 => some (.object "java/lang/Object")
  | 104 => some (.array .int)
  | 105 => some (.array .boolean)
  | 106 => some (.object "java/lang/Integer")
  | _ => none
/-- a cell of the machine is as the abstract heap says -/
def aAt (D : aD) (a : Nat) (o : aO) (H : Heap) : Prop :=
  ∃ cell : Cell, H[a]? = some cell ∧ cell.cls = D.1.1 o.1 ∧ cell.vm.isStatics = false ∧ cell.vm ≠ .unknown ∧ (b0 D ≤ a → cell.vm = .none ∧ (100 ≤ o.1 → cell = { cls := D.1.1 o.1, slots := o.2.toArray, vm := .none })) ∧
    ((o.1 < 100 ∧ ∃ r : vw_C, aCl[o.1]? = some r ∧ o.2.length = r.2.2 ∧ ∀ k, k < r.2.2 → cell.slots[D.1.2 o.1 k]? = some (vp_V o.2 k)) ∨ (100 ≤ o.1 ∧ cell.slots = o.2.toArray))
def aCells (D : aD) (h : aH) (H : Heap) : Prop := h.1 ≤ D.2.1 ∧ h.2.1 ≤ D.2.2.1 ∧ ∀ (a : Nat) (o : aO), h.2.2 a = some o → aAt D a o H
def aRel (D : aD) (h : aH) (H : Heap) : Prop := H.size = h.1 ∧ aCells D h H
def aRelW (D : aD) (h : aH) (H : Heap) : Prop := aCells D h H
def aOld (D : aD) (H : Heap) : Prop := b0 D ≤ H.size ∧ ∀ q : Nat, q < b0 D → H[q]? = D.2.2.2.1[q]?
theorem aAt.lt {D : aD} {a : Nat} {o : aO} {H : Heap} (h : aAt D a o H) : a < H.size := by
  obtain ⟨cell, h, -⟩ := h
  exact (Array.getElem?_eq_some_iff.mp h).1
theorem aAt.kept {D : aD} {a : Nat} {o : aO} {H H1 : Heap} (h : aAt D a o H) (e : H1[a]? = H[a]?) : aAt D a o H1 := by
  obtain ⟨cell, h, h2⟩ := h
  exact ⟨cell, e.trans h, h2⟩
/-- the abstract heap with one cell written -/
def aUp (h : aH) (a : Nat) (o : aO) : aH := (h.1, h.2.1, fun q => if q = a then some o else h.2.2 q)
/-- .. and with one cell made -/
def aNew (h : aH) (o : aO) : aH := (h.1 + 1, h.2.1 + o.2.length, fun q => if q = h.1 then some o else h.2.2 q)
theorem aRel.up {D : aD} {h : aH} {H H1 : Heap} {a : Nat} {o : aO} (hR : aRel D h H) (e : H1.size = H.size) (ho : ∀ q : Nat, q ≠ a → H1[q]? = H[q]?) (ha : aAt D a o H1) : aRel D (aUp h a o) H1 := by
  refine ⟨e.trans hR.1, hR.2.1, hR.2.2.1, fun b o' hb => ?_⟩
  simp only [aUp] at hb
  by_cases hq : b = a
  · rw [if_pos hq] at hb
    cases hb
    rw [hq]
    exact ha
  · rw [if_neg hq] at hb
    exact (hR.2.2.2 b o' hb).kept (ho b hq)
theorem aRel.new {D : aD} {h : aH} {H H1 : Heap} {o : aO} (hR : aRel D h H) (e : H1.size = H.size + 1) (ho : ∀ q : Nat, q < H.size → H1[q]? = H[q]?) (h1 : h.1 + 1 ≤ D.2.1) (h2 : h.2.1 + o.2.length ≤ D.2.2.1) (ha : aAt D H.size o H1) : aRel D (aNew h o) H1 := by
  refine ⟨by rw [e, hR.1]; rfl, h1, h2, fun b o' hb => ?_⟩
  simp only [aNew] at hb
  by_cases hq : b = h.1
  · rw [if_pos hq] at hb
    cases hb
    rw [hq, ← hR.1]
    exact ha
  · rw [if_neg hq] at hb
    have := hR.2.2.2 b o' hb
    exact this.kept (ho b this.lt)
theorem aOld.up {D : aD} {H H1 : Heap} {a : Nat} (h : aOld D H) (e : H1.size = H.size) (ho : ∀ q : Nat, q ≠ a → H1[q]? = H[q]?) (ha : b0 D ≤ a) : aOld D H1 :=
  ⟨by rw [e]; exact h.1, fun q hq => by rw [ho q (by omega)]; exact h.2 q hq⟩
theorem aOld.new {D : aD} {H H1 : Heap} (h : aOld D H) (e : H1.size = H.size + 1) (ho : ∀ q : Nat, q < H.size → H1[q]? = H[q]?) : aOld D H1 :=
  ⟨by rw [e]; exact Nat.le_succ_of_le h.1, fun q hq => by rw [ho q (Nat.lt_of_lt_of_le hq h.1)]; exact h.2 q hq⟩
/-! ===== the words that hold all through a run ===== -/
def gOk : Cond → Bool
  | .declares _ => true
  | .publicMethod _ => true
  | .unhidden _ _ _ => true
  | .castable _ _ => true
  | .arrayOver (.object _) => true
  | .arrayOver (.array _) => true
  | .interfaceMethod _ _ _ _ => true
  | .fieldLinkNest _ _ _ _ _ _ => true
  | .methodLinkNest _ _ _ _ => true
  | .arrayClass _ => true
  | w => w.onTables && w.keeps
/-- the words of the premise beside the tables: interface methods that are inherited -/
def aNW : List Cond := [.interfaceMethod "java/util/NavigableMap" "java/util/Map" "put" "(Ljava/lang/Object;Ljava/lang/Object;)Ljava/lang/Object;", .interfaceMethod "java/util/NavigableMap" "java/util/Map" "isEmpty" "()Z", .interfaceMethod "java/util/NavigableMap" "java/util/SortedMap" "firstKey" "()Ljava/lang/Object;", .interfaceMethod "java/util/NavigableMap" "java/util/SortedMap" "lastKey" "()Ljava/lang/Object;",
  .methodLink "java/util/TreeSet" 69 ⟨"java/util/NavigableMap", "put", "(Ljava/lang/Object;Ljava/lang/Object;)Ljava/lang/Object;"⟩, .methodLink "java/util/TreeSet" 57 ⟨"java/util/NavigableMap", "isEmpty", "()Z"⟩, .methodLink "java/util/TreeSet" 118 ⟨"java/util/NavigableMap", "firstKey", "()Ljava/lang/Object;"⟩, .methodLink "java/util/TreeSet" 122 ⟨"java/util/NavigableMap", "lastKey", "()Ljava/lang/Object;"⟩]
def gl : List Cond := (lw_tbl ++ aNW).filter gOk
theorem g_in {w : Cond} (h : w ∈ lw_tbl) (g : gOk w = true) : w ∈ gl := List.mem_filter.mpr ⟨List.mem_append_left _ h, g⟩
theorem g_nw {w : Cond} (h : w ∈ aNW) (g : gOk w = true) : w ∈ gl := List.mem_filter.mpr ⟨List.mem_append_right _ h, g⟩
theorem g_good {w : Cond} (h : goodWord w = true) : gOk w = true := by
  unfold gOk
  split
  all_goals first | rfl | skip
  · unfold goodWord at h
    split at h
    · simp_all
    · exact h
theorem g_all {w : Cond} (h : w ∈ lw_all) : w ∈ gl := g_in (lw_all_tbl h) (g_good (List.mem_filter.mp h).2)
theorem arrayOverA_moved {t : FieldType} {u U : State} (hvm : u.vm.Alike U.vm) (h : (Cond.arrayOver (.array t)).before #[] u = true) : (Cond.arrayOver (.array t)).before #[] U = true := by
  obtain ⟨comp, c, k, h1, h2, h3, h4, h5⟩ := arrayOverA_spec h
  obtain ⟨k', hk', he⟩ := hvm.2.2 _ _ h3
  have hi : (U.vm.classes.findIdx? fun (x : Class) => match x.kind with | .array component _ => component == comp | _ => false) = some c := by
    refine (va_idx_bare U.vm comp).symm.trans ?_
    have e9 := va_idx_bare u.vm comp
    first | rw [hvm.bare_eq] | rw [← hvm.bare_eq]
    exact e9.trans h2
  have hkind : k'.kind = .array comp (.array t) := by rw [he]; exact h4
  have f1 : U.vm.findClass (FieldType.array t).toString = some comp := by rw [hvm.findClass]; exact h1
  have f2 : U.vm.findClass ("[" ++ (FieldType.array t).toString) = some c := by rw [hvm.findClass]; exact h5
  unfold Cond.before Cond.holds
  simp only [Cond.value]
  rw [f1, Option.bind_some]
  refine (congrArg (fun o : Option Nat => (o.bind (fun c => (U.vm.classes[c]?).map fun (k : Class) => match k.kind with | .array _ ty => decide (ty = FieldType.array t) && decide (U.vm.findClass ("[" ++ (FieldType.array t).toString) = some c) | _ => false) == some true)) hi).trans ?_
  simp [hk', hkind, f2]
def gT (U : State) : Prop := ∀ w ∈ gl, w.before #[] U = true
theorem gT.moved {s U : State} (hW : s.WarmedH U.vm) (h : gT s) : gT U := by
  intro w hw
  have hs := h w hw
  have ok : gOk w = true := (List.mem_filter.mp hw).2
  unfold gOk at ok
  split at ok
  · exact va_Nw.warmD hW hs
  · exact va_tabs rfl (rfl : (s.setVm U.vm).vm = U.vm) (by rw [Cond.publicMethod_setVm hW.alike]; exact hs)
  · exact va_tabs rfl (rfl : (s.setVm U.vm).vm = U.vm) (by rw [Cond.unhidden_setVm hW.alike]; exact hs)
  · exact va_Nw.warmC hW hs
  · exact va_AO.moved hW.alike hs
  · exact arrayOverA_moved hW.alike hs
  · rename_i ref J name desc
    have e : (Cond.interfaceMethod ref J name desc).before #[] (s.setVm U.vm) = (Cond.interfaceMethod ref J name desc).before #[] s := by
      have h := hW.alike
      simp only [Cond.before, Cond.holds, Cond.value, State.vm_setVm, h.findClass, State.methodFound?_setVm h, State.methodNamed?_setVm h, arm_isInterface_setVm h]
    exact va_tabs rfl (rfl : (s.setVm U.vm).vm = U.vm) (by rw [e]; exact hs)
  · exact va_Nw.warmF hW hs
  · exact va_Nw.warmM hW hs
  · exact word_at hW (Or.inr ⟨_, rfl⟩) hs
  · exact word_at hW (Or.inl ok) hs
theorem gT.use {s : State} {args : Array Value} {w : Cond} (h : gT s) (hw : w ∈ gl) : w.before args s = true := by
  have hs := h w hw
  have ok : gOk w = true := (List.mem_filter.mp hw).2
  unfold gOk at ok
  split at ok
  · exact va_any rfl hs
  · exact va_any rfl hs
  · exact va_any rfl hs
  · exact va_any rfl hs
  · exact hs
  · exact hs
  · exact va_any rfl hs
  · exact va_any rfl hs
  · exact va_any rfl hs
  · exact word_at (State.WarmedH.refl s) (Or.inr ⟨_, rfl⟩) hs
  · exact word_at (State.WarmedH.refl s) (Or.inl ok) hs
