/-! ===== arrays ===== -/
set_option maxRecDepth 100000
/-- an array's cell in the machine -/
theorem aArr {D : aD} {a t : Nat} {fs : List Value} {H : Heap} {s : State} {ty : FieldType} (hV : aVm D s) (ht : aTy t = some ty) (h1 : 100 ≤ t) (h : aAt D a (t, fs) H) : ∃ cell : Cell, H[a]? = some cell ∧ cell.cls = D.1.1 t ∧ cell.vm.isStatics = false ∧ cell.vm ≠ .unknown ∧ cell.slots = fs.toArray ∧ s.isArrayOf cell ty ∧ (b0 D ≤ a → cell = { cls := D.1.1 t, slots := fs.toArray, vm := .none }) := by
  obtain ⟨cell, q1, q2, q3, q4, q5, q6⟩ := h
  obtain ⟨-, q6⟩ := q6.resolve_left (fun z => by have z1 := z.1; dsimp only at z1; omega)
  exact ⟨cell, q1, q2, q3, q4, q6, (hV.2.2.1 t ty ht).of q2 q3, fun z => (q5 z).2 h1⟩
theorem aArr_st {D : aD} {a t i : Nat} {fs : List Value} {H1 : Heap} {cell : Cell} {v : Value} (h1 : 100 ≤ t) (hb : b0 D ≤ a) (e : cell = { cls := D.1.1 t, slots := fs.toArray, vm := .none }) (hi : i < fs.length) (e1 : H1[a]? = some (cell.setSlot i v)) : aAt D a (t, fs.set i v) H1 := by
  subst e
  have e2 : ({ cls := D.1.1 t, slots := fs.toArray, vm := .none } : Cell).setSlot i v = { cls := D.1.1 t, slots := (fs.set i v).toArray, vm := .none } := by
    simp [Cell.setSlot]
  rw [e2] at e1
  exact ⟨_, e1, rfl, rfl, (fun z => by cases z), fun _ => ⟨rfl, fun _ => rfl⟩, Or.inr ⟨h1, rfl⟩⟩
section AAR
variable {p : Program} {l : Launch} {e : Env} {R : Room} {s : State} {m : MethodId} {args : Array Value} {below : List Frame} {meth : Method} {c : Code} {D : aD} {n0 s0 : Nat} {Q : State → Prop}
variable {own : String} {cc : ByteArray} {rf rl nL : Nat} {h h' : aH} {pc : Nat} {lv : aLv} {st : List Value}
theorem v_iaload (C : aC p l R s m meth c D n0 s0 own cc rf rl nL) {r : Option Nat} {i : Int32} {x : Int32} (hf : eI h r i = some x) (d : decode cc pc = .ok (.iaload, 1)) (k : V p l e R s m args below meth c D n0 s0 Q h (pc + 1) lv (.int x :: st)) : V p l e R s m args below meth c D n0 s0 Q h pc lv (.int i :: va_rf r :: st) := by
  intro H locs k' n ls h1 h2 h3 h4 h5 h6 h7
  obtain ⟨v, hv1, hv2⟩ := Option.bind_eq_some_iff.mp hf
  have hv2 := asI_eq hv2
  subst hv2
  obtain ⟨a, fs, rfl, ha, hi0, hv⟩ := eF_eq hv1
  obtain ⟨cell, q1, q2, q3, q4, q5, q6, -⟩ := aArr (ty := .int) C.2.2.2.1 rfl (by decide) (h1.2.2.2 a _ ha)
  have hlt := (List.getElem?_eq_some_iff.mp hv).1
  exact W.iald C.1 C.2.1 q1 q6 q4 (by rw [q5]; intro z; rcases z with z | z; exact hi0 z; simp at z; omega) (v := .int x) (by rw [q5]; simpa using hv) rfl rfl d (k H locs k' n ls h1 h2 h3 h4 h5 h6 h7)
theorem v_laload (C : aC p l R s m meth c D n0 s0 own cc rf rl nL) {r : Option Nat} {i : Int32} {x : Int64} (hf : eL h r i = some x) (d : decode cc pc = .ok (.laload, 1)) (k : V p l e R s m args below meth c D n0 s0 Q h (pc + 1) lv (.long x :: st)) : V p l e R s m args below meth c D n0 s0 Q h pc lv (.int i :: va_rf r :: st) := by
  intro H locs k' n ls h1 h2 h3 h4 h5 h6 h7
  obtain ⟨v, hv1, hv2⟩ := Option.bind_eq_some_iff.mp hf
  have hv2 := asL_eq hv2
  subst hv2
  obtain ⟨a, fs, rfl, ha, hi0, hv⟩ := eF_eq hv1
  obtain ⟨cell, q1, q2, q3, q4, q5, q6, -⟩ := aArr (ty := .long) C.2.2.2.1 rfl (by decide) (h1.2.2.2 a _ ha)
  have hlt := (List.getElem?_eq_some_iff.mp hv).1
  exact W.lald C.1 C.2.1 q1 q6 q4 (by rw [q5]; intro z; rcases z with z | z; exact hi0 z; simp at z; omega) (v := .long x) (by rw [q5]; simpa using hv) rfl rfl d (k H locs k' n ls h1 h2 h3 h4 h5 h6 h7)
theorem v_baload (C : aC p l R s m meth c D n0 s0 own cc rf rl nL) {r : Option Nat} {i : Int32} {x : Int32} (hf : eZ h r i = some x) (d : decode cc pc = .ok (.baload, 1)) (k : V p l e R s m args below meth c D n0 s0 Q h (pc + 1) lv (.int x :: st)) : V p l e R s m args below meth c D n0 s0 Q h pc lv (.int i :: va_rf r :: st) := by
  intro H locs k' n ls h1 h2 h3 h4 h5 h6 h7
  obtain ⟨v, hv1, hv2⟩ := Option.bind_eq_some_iff.mp hf
  have hv2 := asI_eq hv2
  subst hv2
  obtain ⟨a, fs, rfl, ha, hi0, hv⟩ := eF_eq hv1
  obtain ⟨cell, q1, q2, q3, q4, q5, q6, -⟩ := aArr (ty := .boolean) C.2.2.2.1 rfl (by decide) (h1.2.2.2 a _ ha)
  have hlt := (List.getElem?_eq_some_iff.mp hv).1
  exact W.zald C.1 C.2.1 q1 q6 q4 (by rw [q5]; intro z; rcases z with z | z; exact hi0 z; simp at z; omega) (v := .int x) (by rw [q5]; simpa using hv) rfl rfl d (k H locs k' n ls h1 h2 h3 h4 h5 h6 h7)
theorem v_iastore (C : aC p l R s m meth c D n0 s0 own cc rf rl nL) {r : Option Nat} {i : Int32} {x : Int32} (hf : sF D h 100 r i (.int x) = some h') (d : decode cc pc = .ok (.iastore, 1)) (k : V p l e R s m args below meth c D n0 s0 Q h' (pc + 1) lv st) : V p l e R s m args below meth c D n0 s0 Q h pc lv (.int x :: .int i :: va_rf r :: st) := by
  intro H locs k' n ls h1 h2 h3 h4 h5 h6 h7
  obtain ⟨a, fs, rfl, ha, hi0, hlt, hb0, rfl⟩ := sF_eq hf
  obtain ⟨cell, q1, q2, q3, q4, q5, q6, q7⟩ := aArr (ty := .int) C.2.2.2.1 rfl (by decide) (h1.2.2.2 a _ ha)
  refine W.iast C.1 C.2.1 q1 q6 q4 (by rw [q5]; intro z; rcases z with z | z; exact hi0 z; simp at z; omega) rfl rfl d fun H' e1 e2 e3 => ?_
  refine k H' _ k' n ls (h1.up e2 e3 (aArr_st (by decide) hb0 (q7 hb0) hlt e1)) (h2.up e2 e3 hb0) (by rw [e2]; exact h3) (fun z hz => ?_) h5 h6 h7
  rcases List.mem_append.mp hz with hz | hz
  · exact h4 z hz
  · rw [List.mem_singleton.mp hz]; exact hb0
theorem v_lastore (C : aC p l R s m meth c D n0 s0 own cc rf rl nL) {r : Option Nat} {i : Int32} {x : Int64} (hf : sF D h 101 r i (.long x) = some h') (d : decode cc pc = .ok (.lastore, 1)) (k : V p l e R s m args below meth c D n0 s0 Q h' (pc + 1) lv st) : V p l e R s m args below meth c D n0 s0 Q h pc lv (.long x :: .int i :: va_rf r :: st) := by
  intro H locs k' n ls h1 h2 h3 h4 h5 h6 h7
  obtain ⟨a, fs, rfl, ha, hi0, hlt, hb0, rfl⟩ := sF_eq hf
  obtain ⟨cell, q1, q2, q3, q4, q5, q6, q7⟩ := aArr (ty := .long) C.2.2.2.1 rfl (by decide) (h1.2.2.2 a _ ha)
  refine W.last C.1 C.2.1 q1 q6 q4 (by rw [q5]; intro z; rcases z with z | z; exact hi0 z; simp at z; omega) rfl rfl d fun H' e1 e2 e3 => ?_
  refine k H' _ k' n ls (h1.up e2 e3 (aArr_st (by decide) hb0 (q7 hb0) hlt e1)) (h2.up e2 e3 hb0) (by rw [e2]; exact h3) (fun z hz => ?_) h5 h6 h7
  rcases List.mem_append.mp hz with hz | hz
  · exact h4 z hz
  · rw [List.mem_singleton.mp hz]; exact hb0
theorem v_bastore (C : aC p l R s m meth c D n0 s0 own cc rf rl nL) {r : Option Nat} {i x : Int32} (hx : x = 0 ∨ x = 1) (hf : sF D h 102 r i (.int x) = some h') (d : decode cc pc = .ok (.bastore, 1)) (k : V p l e R s m args below meth c D n0 s0 Q h' (pc + 1) lv st) : V p l e R s m args below meth c D n0 s0 Q h pc lv (.int x :: .int i :: va_rf r :: st) := by
  intro H locs k' n ls h1 h2 h3 h4 h5 h6 h7
  obtain ⟨a, fs, rfl, ha, hi0, hlt, hb0, rfl⟩ := sF_eq hf
  obtain ⟨cell, q1, q2, q3, q4, q5, q6, q7⟩ := aArr (ty := .boolean) C.2.2.2.1 rfl (by decide) (h1.2.2.2 a _ ha)
  have hnx : narrow .boolean (.int x) = .int x := by rcases hx with rfl | rfl <;> rfl
  refine W.zast C.1 C.2.1 q1 q6 q4 (by rw [q5]; intro z; rcases z with z | z; exact hi0 z; simp at z; omega) rfl rfl d fun H' e1 e2 e3 => ?_
  rw [hnx] at e1
  refine k H' _ k' n ls (h1.up e2 e3 (aArr_st (by decide) hb0 (q7 hb0) hlt e1)) (h2.up e2 e3 hb0) (by rw [e2]; exact h3) (fun z hz => ?_) h5 h6 h7
  rcases List.mem_append.mp hz with hz | hz
  · exact h4 z hz
  · rw [List.mem_singleton.mp hz]; exact hb0
theorem isRA_ty {t : Nat} (h : isRA t = true) : 100 ≤ t ∧ ∃ ty, aTy t = some ty ∧ ty.isReference = true := by
  simp only [isRA, Bool.or_eq_true, beq_iff_eq] at h
  rcases h with rfl | rfl | rfl | rfl
  · exact ⟨by decide, _, rfl, rfl⟩
  · exact ⟨by decide, _, rfl, rfl⟩
  · exact ⟨by decide, _, rfl, rfl⟩
  · exact ⟨by decide, _, rfl, rfl⟩
theorem v_aaload (C : aC p l R s m meth c D n0 s0 own cc rf rl nL) {r : Option Nat} {i : Int32} {x : Option Nat} (hf : eR h r i = some x) (d : decode cc pc = .ok (.aaload, 1)) (k : V p l e R s m args below meth c D n0 s0 Q h (pc + 1) lv (va_rf x :: st)) : V p l e R s m args below meth c D n0 s0 Q h pc lv (.int i :: va_rf r :: st) := by
  intro H locs k' n ls h1 h2 h3 h4 h5 h6 h7
  unfold eR at hf
  obtain ⟨⟨a, t, fs⟩, e1, e2⟩ := Option.bind_eq_some_iff.mp hf
  obtain ⟨rfl, ha⟩ := aCell_eq e1
  dsimp only at e2 ha
  split at e2
  case isFalse => cases e2
  rename_i ht
  obtain ⟨v, hv, hv2⟩ := Option.bind_eq_some_iff.mp e2
  have hv2 := asR_eq hv2
  subst hv2
  obtain ⟨ht1, ty, hty, href⟩ := isRA_ty ht.1
  obtain ⟨cell, q1, q2, q3, q4, q5, q6, -⟩ := aArr C.2.2.2.1 hty ht1 (h1.2.2.2 a _ ha)
  have hlt := (List.getElem?_eq_some_iff.mp hv).1
  exact W.aald (v := va_rf x) (ty := ty) C.1 C.2.1 q1 q6 href q4 (by rw [q5]; intro z; rcases z with z | z; exact ht.2 z; simp at z; omega) (by rw [q5]; simpa using hv) rfl rfl d (k H locs k' n ls h1 h2 h3 h4 h5 h6 h7)
theorem v_alen (C : aC p l R s m meth c D n0 s0 own cc rf rl nL) {r : Option Nat} {x : Int32} (hf : eN h r = some x) (d : decode cc pc = .ok (.arraylength, 1)) (k : V p l e R s m args below meth c D n0 s0 Q h (pc + 1) lv (.int x :: st)) : V p l e R s m args below meth c D n0 s0 Q h pc lv (va_rf r :: st) := by
  intro H locs k' n ls h1 h2 h3 h4 h5 h6 h7
  unfold eN at hf
  obtain ⟨⟨a, t, fs⟩, e1, e2⟩ := Option.bind_eq_some_iff.mp hf
  obtain ⟨rfl, ha⟩ := aCell_eq e1
  dsimp only at e2 ha
  split at e2
  case isFalse => cases e2
  rename_i ht
  cases e2
  obtain ⟨ty, hty⟩ : ∃ ty, aTy t = some ty := by
    have : t = 100 ∨ t = 101 ∨ t = 102 ∨ t = 103 ∨ t = 104 ∨ t = 105 ∨ t = 106 := by omega
    rcases this with rfl | rfl | rfl | rfl | rfl | rfl | rfl <;> exact ⟨_, rfl⟩
  obtain ⟨cell, q1, q2, q3, q4, q5, q6, -⟩ := aArr C.2.2.2.1 hty ht.1 (h1.2.2.2 a _ ha)
  exact W.alen C.1 C.2.1 q1 q6 (by rw [q5]; simp) rfl rfl d (k H locs k' n ls h1 h2 h3 h4 h5 h6 h7)
/-- the classes' objects may stand in an array of Objects -/
theorem aObj : ∀ t, t < 23 → ∃ (C : String) (T : u_T) (N : Nat), aCl[t]? = some (C, T, N) ∧ Cond.castable C "java/lang/Object" ∈ lw_tbl := by
  intro t ht
  match t, ht with
  | 0, _ => exact ⟨_, _, _, rfl, q2926⟩
  | 1, _ => exact ⟨_, _, _, rfl, q2929⟩
  | 2, _ => exact ⟨_, _, _, rfl, q2932⟩
  | 3, _ => exact ⟨_, _, _, rfl, q2935⟩
  | 4, _ => exact ⟨_, _, _, rfl, q2936⟩
  | 5, _ => exact ⟨_, _, _, rfl, q2937⟩
  | 6, _ => exact ⟨_, _, _, rfl, q2938⟩
  | 7, _ => exact ⟨_, _, _, rfl, q2942⟩
  | 8, _ => exact ⟨_, _, _, rfl, q2946⟩
  | 9, _ => exact ⟨_, _, _, rfl, q2947⟩
  | 10, _ => exact ⟨_, _, _, rfl, q2949⟩
  | 11, _ => exact ⟨_, _, _, rfl, q2951⟩
  | 12, _ => exact ⟨_, _, _, rfl, q2952⟩
  | 13, _ => exact ⟨_, _, _, rfl, q2953⟩
  | 14, _ => exact ⟨_, _, _, rfl, q2955⟩
  | 15, _ => exact ⟨_, _, _, rfl, q2927⟩
  | 16, _ => exact ⟨_, _, _, rfl, q2928⟩
  | 17, _ => exact ⟨_, _, _, rfl, q2945⟩
  | 18, _ => exact ⟨_, _, _, rfl, q2948⟩
  | 19, _ => exact ⟨_, _, _, rfl, q2939⟩
  | 20, _ => exact ⟨_, _, _, rfl, q2941⟩
  | 21, _ => exact ⟨_, _, _, rfl, q2954⟩
  | 22, _ => exact ⟨_, _, _, rfl, q2943⟩
  | t + 23, h => omega
theorem aFit_ok {s : State} {D : aD} (hV : aVm D s) {t t' : Nat} {ty : FieldType} (hf : aFit t t' = true) (ht : aTy t = some ty) : ∃ (kA : Class) (comp : ClassId) (kc kv : Class), s.vm.classes[D.1.1 t]? = some kA ∧ kA.kind = .array comp ty ∧ s.vm.classes[comp]? = some kc ∧ s.vm.classes[D.1.1 t']? = some kv ∧ s.vm.assignable (D.1.1 t') comp = true := by
  obtain ⟨kA, comp, k1, k2, k3, k4⟩ := hV.2.2.1 t ty ht
  simp only [aFit, Bool.or_eq_true, Bool.and_eq_true, beq_iff_eq, decide_eq_true_eq] at hf
  rcases hf with ⟨rfl, hf⟩ | ⟨rfl, rfl⟩ | ⟨rfl, rfl⟩
  · cases ht
    have hcomp : s.vm.findClass "java/lang/Object" = some comp := k4 rfl
    obtain ⟨kc, hkc, -⟩ := Vm.findClass_spec hcomp
    rcases hf with hf | rfl
    · obtain ⟨C, T, N, hc, hw⟩ := aObj t' hf
      obtain ⟨-, hfc, kv, hkv, -⟩ := hV.2.1 t' _ hc
      obtain ⟨x, t1, f1, f2, f3⟩ := Cond.castable_spec (gN (args := #[]) hw rfl hV.1)
      cases hfc.symm.trans f1
      cases hcomp.symm.trans f2
      exact ⟨kA, comp, kc, kv, k1, k2, hkc, hkv, f3⟩
    · obtain ⟨kv, cv, v1, v2, v3, -⟩ := hV.2.2.1 100 .int rfl
      have e : "[" ++ FieldType.int.toString = "[I" := by decide +kernel
      rw [e] at v3
      obtain ⟨x, t1, f1, f2, f3⟩ := Cond.castable_spec (gN (args := #[]) q2965 rfl hV.1)
      cases v3.symm.trans f1
      cases hcomp.symm.trans f2
      exact ⟨kA, comp, kc, kv, k1, k2, hkc, v1, f3⟩
  · cases ht
    have hcomp : s.vm.findClass (aNm (.array .int)) = some comp := k4 rfl
    obtain ⟨kc, hkc, -⟩ := Vm.findClass_spec hcomp
    obtain ⟨kv, cv, v1, v2, v3, -⟩ := hV.2.2.1 100 .int rfl
    have e : "[" ++ FieldType.int.toString = aNm (.array .int) := by decide +kernel
    rw [e] at v3
    cases hcomp.symm.trans v3
    exact ⟨kA, _, kc, kv, k1, k2, hkc, v1, va_asg _ _⟩
  · cases ht
    have hcomp : s.vm.findClass (aNm (.array .boolean)) = some comp := k4 rfl
    obtain ⟨kc, hkc, -⟩ := Vm.findClass_spec hcomp
    obtain ⟨kv, cv, v1, v2, v3, -⟩ := hV.2.2.1 102 .boolean rfl
    have e : "[" ++ FieldType.boolean.toString = aNm (.array .boolean) := by decide +kernel
    rw [e] at v3
    cases hcomp.symm.trans v3
    exact ⟨kA, _, kc, kv, k1, k2, hkc, v1, va_asg _ _⟩
theorem va_WaastN9 (hexec : p.tables.exec = Jvm.exec) (hb : c.code = cc) {H : Heap} {locs : List Loc} {cells slots : Nat} {a : Addr} {cell : Cell} {ty : FieldType} (href : ty.isReference = true) {j : Int32} (hcell : H[a]? = some cell) (harr : s.isArrayOf cell ty) (hknown : cell.vm ≠ .unknown) (hin : ¬ (j < 0 ∨ cell.slots.size ≤ j.toNatClampNeg))
    {g : JFrame} (hg : g.method = m) {rest : List Value} (hstack : g.stack = .null :: .int j :: .ref a :: rest) (hdg : decode cc g.pc = .ok (.aastore, 1))
    (kk : ∀ H' : Heap, H'[a]? = some (cell.setSlot j.toNatClampNeg .null) → H'.size = H.size → (∀ q, q ≠ a → H'[q]? = H[q]?) → W p l e R s m args below meth c H' (locs ++ [⟨a, j.toNatClampNeg⟩]) cells slots Q { g with pc := g.pc + 1, stack := rest }) :
    W p l e R s m args below meth c H locs cells slots Q g := by
  intro T hT X
  have hT' : T.heap[a]? = some cell := by rw [hT]; exact hcell
  obtain ⟨hobj, k, hk, comp, hkind⟩ := harr
  obtain ⟨X', st⟩ := X.aastoreNullIn hexec hT' hobj hknown hk hkind href ⟨fun z => hin (Or.inl z), Nat.not_le.mp fun z => hin (Or.inr z)⟩ hg hstack (by rw [hb]; exact hdg)
  have hlt : a < T.heap.size := (Array.getElem?_eq_some_iff.mp hT').1
  obtain ⟨t', a1, b1⟩ := kk _ (heapAt_setCell_self _ hlt) (by rw [size_setCell, hT]) (fun q hq => by rw [heapAt_setCell_ne _ (Ne.symm hq), hT]) (T.setCell a (cell.setSlot j.toNatClampNeg .null)) rfl X'
  exact ⟨t', st t' a1, b1⟩
theorem v_aastore (C : aC p l R s m meth c D n0 s0 own cc rf rl nL) {r x : Option Nat} {i : Int32} (hf : sR D h r i x = some h') (d : decode cc pc = .ok (.aastore, 1)) (k : V p l e R s m args below meth c D n0 s0 Q h' (pc + 1) lv st) : V p l e R s m args below meth c D n0 s0 Q h pc lv (va_rf x :: .int i :: va_rf r :: st) := by
  intro H locs k' n ls h1 h2 h3 h4 h5 h6 h7
  unfold sR at hf
  obtain ⟨⟨a, t, fs⟩, e1, e2⟩ := Option.bind_eq_some_iff.mp hf
  obtain ⟨rfl, ha⟩ := aCell_eq e1
  dsimp only at e2 ha
  split at e2
  case isFalse => cases e2
  rename_i ht
  obtain ⟨ht, hi0, hlt, hb0, hx⟩ := ht
  cases e2
  obtain ⟨ht1, ty, hty, href⟩ := isRA_ty ht
  obtain ⟨cell, q1, q2, q3, q4, q5, q6, q7⟩ := aArr C.2.2.2.1 hty ht1 (h1.2.2.2 a _ ha)
  have hin : ¬ (i < 0 ∨ cell.slots.size ≤ i.toNatClampNeg) := by
    rw [q5]; intro z; rcases z with z | z
    · exact hi0 z
    · simp at z; omega
  have fin : ∀ H' : Heap, H'[a]? = some (cell.setSlot i.toNatClampNeg (va_rf x)) → H'.size = H.size → (∀ q, q ≠ a → H'[q]? = H[q]?) → W p l e R s m args below meth c H' (locs ++ [⟨a, i.toNatClampNeg⟩]) k' n Q (F0 m (pc + 1) ls st) := by
    intro H' e1 e2 e3
    refine k H' _ k' n ls (h1.up e2 e3 (aArr_st ht1 hb0 (q7 hb0) hlt e1)) (h2.up e2 e3 hb0) (by rw [e2]; exact h3) (fun z hz => ?_) h5 h6 h7
    rcases List.mem_append.mp hz with hz | hz
    · exact h4 z hz
    · rw [List.mem_singleton.mp hz]; exact hb0
  cases x with
  | none => exact va_WaastN9 C.1 C.2.1 href q1 q6 q4 hin rfl rfl d fin
  | some v =>
    obtain ⟨w, hw, hfit⟩ := hx.resolve_left (by simp)
    obtain ⟨hv1, hv2⟩ := aCell_eq hw
    cases hv1
    obtain ⟨cv, w1, w2, w3, -⟩ := h1.2.2.2 _ _ hv2
    obtain ⟨kA, comp, kc, kv, k1, k2, k3, k4, k5⟩ := aFit_ok C.2.2.2.1 hfit hty
    exact W.aast C.1 C.2.1 q1 (fun q z => by rw [z] at q3; cases q3) q4 (by rw [q2]; exact k1) k2 href k3 ⟨hi0, Nat.not_le.mp fun z => hin (Or.inr z)⟩ w1 (fun q z => by rw [z] at w3; cases w3) (by rw [w2]; exact k4) (by rw [w2]; exact k5) rfl rfl d fin
end AAR
