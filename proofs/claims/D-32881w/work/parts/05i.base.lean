/-! ===== System.arraycopy, getClass of an array of Objects, its class constant ===== -/
set_option maxRecDepth 100000
def cpL (l0 l1 : List Value) (sp dp n : Nat) : List Value := l1.take dp ++ ((l0.drop sp).take n ++ l1.drop (dp + n))
/-- may the value be copied into an array of this tag? -/
def cpOk (h : aH) (t : Nat) (v : Value) : Bool := match t, v with
  | 100, .int _ => true
  | 103, .null => true
  | 103, .ref y => match h.2.2 y with
    | some o => aFit 103 o.1
    | none => false
  | _, _ => false
def aCpy (D : aD) (h : aH) (src : Option Nat) (sp : Int32) (dst : Option Nat) (dp n : Int32) : Option aH :=
  (aCell h src).bind fun q0 => (aCell h dst).bind fun q1 =>
    if q0.2.1 = q1.2.1 ∧ ¬ sp < 0 ∧ ¬ dp < 0 ∧ ¬ n < 0 ∧ sp.toNatClampNeg + n.toNatClampNeg ≤ q0.2.2.length ∧ dp.toNatClampNeg + n.toNatClampNeg ≤ q1.2.2.length ∧ b0 D ≤ q1.1 ∧ ((q0.2.1 = 100 ∨ q0.2.1 = 103) ∧ ((q0.2.2.drop sp.toNatClampNeg).take n.toNatClampNeg).all (cpOk h q0.2.1) = true)
    then some (aUp h q1.1 (q1.2.1, cpL q0.2.2 q1.2.2 sp.toNatClampNeg dp.toNatClampNeg n.toNatClampNeg)) else none
theorem storePairs_list (c9 : ClassId) : ∀ (xs : List Value) (i at_ : Nat) (l : List Value), at_ + i + xs.length ≤ l.length → ({ cls := c9, slots := l.toArray, vm := .none } : Cell).storePairs at_ (xs.zipIdx i) = { cls := c9, slots := (l.take (at_ + i) ++ (xs ++ l.drop (at_ + i + xs.length))).toArray, vm := .none }
  | [], i, at_, l, h => by
    show ({ cls := c9, slots := l.toArray, vm := .none } : Cell) = _
    simp
  | x :: xs, i, at_, l, h => by
    rw [List.zipIdx_cons]
    show (({ cls := c9, slots := l.toArray, vm := .none } : Cell).setSlot (at_ + i) x).storePairs at_ (xs.zipIdx (i + 1)) = _
    have hl : at_ + i < l.length := by simp at h; omega
    have e : (({ cls := c9, slots := l.toArray, vm := .none } : Cell).setSlot (at_ + i) x) = { cls := c9, slots := (l.set (at_ + i) x).toArray, vm := .none } := by
      simp [Cell.setSlot]
    rw [e, storePairs_list c9 xs (i + 1) at_ (l.set (at_ + i) x) (by simp at h ⊢; omega)]
    congr 2
    have e1 : (l.set (at_ + i) x).take (at_ + (i + 1)) = l.take (at_ + i) ++ [x] := by
      rw [show at_ + (i + 1) = (at_ + i) + 1 by omega, List.take_add_one, List.take_set_of_le (Nat.le_refl _)]
      simp [hl]
    have e2 : (l.set (at_ + i) x).drop (at_ + (i + 1) + xs.length) = l.drop (at_ + i + (x :: xs).length) := by
      rw [List.drop_set_of_lt (by omega)]
      congr 1
      simp only [List.length_cons]
      omega
    rw [e1, e2]
    simp
theorem stretch_list {cell : Cell} {l : List Value} (hs : cell.slots = l.toArray) {sp n : Nat} (hl : sp + n ≤ l.length) : cell.stretch sp n = (l.drop sp).take n := by
  unfold Cell.stretch
  apply List.ext_getElem
  · simp; omega
  · intro i h1 h2
    simp at h1 h2
    simp [hs]
    rw [List.getElem?_eq_getElem (by omega)]
    rfl
section ACP
variable {p : Program} {l : Launch} {e : Env} {R : Room} {s : State} {m : MethodId} {args : Array Value} {below : List Frame} {meth : Method} {c : Code} {D : aD} {n0 s0 : Nat} {Q : State → Prop}
variable {own : String} {cc : ByteArray} {rf rl nL : Nat} {h h' : aH} {pc : Nat} {lv : aLv} {st : List Value}
theorem v_copy (C : aC p l R s m meth c D n0 s0 own cc rf rl nL) {index : Nat} {src dst : Option Nat} {sp dp n9 : Int32} (hl : Cond.methodLink own index arraycopyName ∈ lw_all) (hnat : Cond.native arraycopyName ∈ lw_all) (hstat : Cond.static arraycopyName ∈ lw_all) (hini : Cond.initialized "java/lang/System" ∈ lw_all) (hf : aCpy D h src sp dst dp n9 = some h') (hrf : 1 ≤ rf) (hrl : (st.map fun v => v.category).sum + (nativeFrameWords "java/lang/System" "arraycopy" 5 + 11) ≤ rl) (d : decode cc pc = .ok (.invokestatic index, 3)) (k : V p l e R s m args below meth c D n0 s0 Q h' (pc + 3) lv st) : V p l e R s m args below meth c D n0 s0 Q h pc lv (.int n9 :: .int dp :: va_rf dst :: .int sp :: va_rf src :: st) := by
  have nn : ∀ z : Int32, ¬ z < 0 → z.toInt = (z.toNatClampNeg : Int) := by
    intro z hz
    have hz0 : (0 : Int) ≤ z.toInt := by
      have := Int32.not_lt.mp hz
      simpa using Int32.le_iff_toInt_le.mp this
    show z.toInt = ((z.toInt.toNat : Nat) : Int)
    omega
  intro H locs k' n ls h1 h2 h3 h4 h5 h6 h7 T hT X
  have hV := C.2.2.2.1
  have hG := hV.1
  unfold aCpy at hf
  obtain ⟨⟨a0, t, l0⟩, e0, hf1⟩ := Option.bind_eq_some_iff.mp hf
  obtain ⟨⟨a1, t1, l1⟩, e1, hf2⟩ := Option.bind_eq_some_iff.mp hf1
  clear hf hf1
  obtain ⟨rfl, ha0⟩ := aCell_eq e0
  obtain ⟨rfl, ha1⟩ := aCell_eq e1
  dsimp only at hf2 ha0 ha1
  split at hf2
  case isFalse => cases hf2
  rename_i hc
  obtain ⟨rfl, i1, i2, i3, i4, i5, hb0, htt, hall⟩ := hc
  cases hf2
  have ht1 : 100 ≤ t := by omega
  obtain ⟨ty, hty⟩ : ∃ ty, aTy t = some ty := by rcases htt with rfl | rfl <;> exact ⟨_, rfl⟩
  obtain ⟨c0, q1, q2, q3, q4, q5, -, -⟩ := aArr hV hty ht1 (h1.2.2.2 _ _ ha0)
  obtain ⟨c1, w1, w2, w3, w4, w5, -, w7⟩ := aArr hV hty ht1 (h1.2.2.2 _ _ ha1)
  obtain ⟨kA, comp, k1, k2, -, kr⟩ := hV.2.2.1 t ty hty
  have hel : ∀ i, i < n9.toNatClampNeg → cpOk h t (c0.slots.getD (sp.toNatClampNeg + i) .null) = true := by
    intro i hi
    refine List.all_eq_true.mp hall _ ?_
    rw [q5]
    have hlt : sp.toNatClampNeg + i < l0.length := by omega
    rw [List.mem_iff_getElem]
    exact ⟨i, by simp; omega, by simp [hlt]⟩
  obtain ⟨vm', X', step⟩ := X.arraycopy C.1 C.2.2.1 (hG.use (g_all hl)) (hG.use (g_all hnat)) (hG.use (g_all hstat)) (hG.use (g_all hini)) (src := a0) (dst := a1) (cs := c0) (cd := c1) (srcPos := sp) (destPos := dp) (n := n9) (ks := kA) (kd := kA) (sComp := comp) (dComp := comp) (sType := ty) (dType := ty) (by rw [hT]; exact q1) (by rw [hT]; exact w1)
    (fun q z => by rw [z] at q3; cases q3) (fun q z => by rw [z] at w3; cases w3) q4 w4 (by rw [q2]; exact k1) (by rw [w2]; exact k1) k2 k2 (by simp) i1 i2 i3
    (by rw [nn sp i1, nn n9 i3, q5]; simp; omega)
    (by rw [nn dp i2, nn n9 i3, w5]; simp; omega)
    (fun vm₁ hal i hi => by
      have he := hel i hi
      generalize c0.slots.getD (sp.toNatClampNeg + i) .null = v at he ⊢
      rcases htt with rfl | rfl
      · cases hty
        cases v <;> simp [cpOk] at he
        exact ⟨rfl, trivial⟩
      · cases hty
        cases v <;> simp [cpOk] at he
        · exact ⟨rfl, trivial⟩
        · rename_i y
          split at he
          · rename_i o ho
            obtain ⟨cv, y1, y2, y3, -⟩ := h1.2.2.2 _ _ ho
            obtain ⟨kA9, comp9, kc, kv, z1, z2, z3, z4, z5⟩ := aFit_ok hV he rfl
            cases z1.symm.trans k1
            cases z2.symm.trans k2
            obtain ⟨kC', hkC', -⟩ := hal.2.2 _ _ z4
            obtain ⟨kE', hkE', -⟩ := hal.2.2 _ _ z3
            refine ⟨rfl, cv, (show T.heap[y]? = some cv by rw [hT]; exact y1), (fun q z => by rw [z] at y3; cases y3), ⟨kC', by rw [y2]; exact hkC'⟩, ⟨kE', hkE'⟩, ?_⟩
            show vm₁.assignable _ _ = true
            rw [hal.assignable, y2]
            exact z5
          · cases he)
    (g := F0 m pc ls (.int n9 :: .int dp :: .ref a1 :: .int sp :: .ref a0 :: st)) rfl h7.1.1 (rest := st) rfl (by rw [C.2.1]; exact d) (Nat.le_trans hrf C.2.2.2.2.2.1) (Nat.le_trans (by show 2 * 0 + _ + _ ≤ rl; omega) C.2.2.2.2.2.2.1)
  have ec : copied c0 c1 sp dp n9 = { cls := D.1.1 t, slots := (cpL l0 l1 sp.toNatClampNeg dp.toNatClampNeg n9.toNatClampNeg).toArray, vm := .none } := by
    show c1.storeRun dp.toNatClampNeg (c0.stretch sp.toNatClampNeg n9.toNatClampNeg) = _
    rw [stretch_list q5 i4, w7 hb0, Cell.storeRun, storePairs_list _ _ 0 _ _ (by simp; omega)]
    have e : ((l0.drop sp.toNatClampNeg).take n9.toNatClampNeg).length = n9.toNatClampNeg := by simp; omega
    rw [e]
    rfl
  rw [ec] at X' step
  have hl9 : a1 < H.size := (Array.getElem?_eq_some_iff.mp w1).1
  generalize hT2 : (T.setVm vm').setCell a1 { cls := D.1.1 t, slots := (cpL l0 l1 sp.toNatClampNeg dp.toNatClampNeg n9.toNatClampNeg).toArray, vm := .none } = T2 at X' step
  have hheap : T2.heap = H.setIfInBounds a1 { cls := D.1.1 t, slots := (cpL l0 l1 sp.toNatClampNeg dp.toNatClampNeg n9.toNatClampNeg).toArray, vm := .none } := by rw [← hT2, ← hT]; rfl
  have oq : ∀ q : Nat, q ≠ a1 → T2.heap[q]? = H[q]? := fun q hq => by rw [hheap]; simp [Array.getElem?_setIfInBounds, Ne.symm hq]
  have oz : T2.heap.size = H.size := by rw [hheap]; simp
  have oe : T2.heap[a1]? = some { cls := D.1.1 t, slots := (cpL l0 l1 sp.toNatClampNeg dp.toNatClampNeg n9.toNatClampNeg).toArray, vm := .none } := by rw [hheap]; simp [Array.getElem?_setIfInBounds, hl9]
  obtain ⟨t2, g1, g2⟩ := k T2.heap _ k' n ls (h1.up oz oq ⟨_, oe, rfl, rfl, (fun z => by cases z), fun _ => ⟨rfl, fun _ => rfl⟩, Or.inr ⟨ht1, rfl⟩⟩) (h2.up oz oq hb0) (by rw [oz]; exact h3) (fun z hz => by
      rcases List.mem_append.mp hz with hz | hz
      · exact h4 z hz
      · obtain ⟨y, -, hy⟩ := List.mem_map.mp hz
        rw [← hy]
        exact hb0) h5 h6 h7 T2 rfl X'
  exact ⟨t2, step t2 g1, g2⟩
theorem v_mirror (C : aC p l R s m meth c D n0 s0 own cc rf rl nL) {index : Nat} (hcl : Cond.classLink own index "[Ljava/lang/Object;" ∈ lw_all) (d : decode cc pc = .ok (.ldc index, 2)) (k : V p l e R s m args below meth c D n0 s0 Q h (pc + 2) lv (D.2.2.2.2 100 :: st)) : V p l e R s m args below meth c D n0 s0 Q h pc lv st := by
  intro H locs k' n ls h1 h2 h3 h4 h5 h6 h7
  obtain ⟨mi, e1, e2⟩ := C.2.2.2.1.2.2.2.2.1.2.2.2.2
  have kk := k H locs k' n ls h1 h2 h3 h4 h5 h6 h7
  rw [e1] at kk
  exact va_ldcM C.1 C.2.1 C.2.2.1 (C.2.2.2.1.1.use (g_all hcl)) e2 d kk
theorem v_getClass (C : aC p l R s m meth c D n0 s0 own cc rf rl nL) {index b : Nat} {r : Option Nat} {fs : List Value} (hr : r = some b) (hb : h.2.2 b = some (103, fs)) (hl : Cond.methodLink own index ⟨"java/lang/Object", "getClass", "()Ljava/lang/Class;"⟩ ∈ lw_all) (hsel : Cond.selects "[Ljava/lang/Object;" ⟨"java/lang/Object", "getClass", "()Ljava/lang/Class;"⟩ ⟨"java/lang/Object", "getClass", "()Ljava/lang/Class;"⟩ ∈ lw_all) (hrf : 1 ≤ rf) (hrl : (st.map fun v => v.category).sum + 14 ≤ rl) (d : decode cc pc = .ok (.invokevirtual index, 3)) (k : V p l e R s m args below meth c D n0 s0 Q h (pc + 3) lv (D.2.2.2.2 100 :: st)) : V p l e R s m args below meth c D n0 s0 Q h pc lv (va_rf r :: st) := by
  intro H locs k' n ls h1 h2 h3 h4 h5 h6 h7
  subst hr
  have hV := C.2.2.2.1
  have hG := hV.1
  obtain ⟨mi, e1, e2⟩ := C.2.2.2.1.2.2.2.2.1.2.2.2.2
  have kk := k H locs k' n ls h1 h2 h3 h4 h5 h6 h7
  rw [e1] at kk
  exact va_getC C.1 C.2.1 h7.1.1.symm C.2.2.1 (hG.use (g_all hl)) (gN q2964 rfl hG) (hG.use (g_all hsel)) (hG.use (g_all q434)) (hG.use (g_all q470)) e2 ((h1.2.2.2 b _ hb).recv hV (Or.inr ⟨_, rfl, by decide +kernel⟩)) (Nat.le_trans hrf C.2.2.2.2.2.1) (Nat.le_trans hrl C.2.2.2.2.2.2.1) d kk
end ACP
