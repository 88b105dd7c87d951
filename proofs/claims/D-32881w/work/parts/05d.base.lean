/-! ===== reading and writing over the abstract heap ===== -/
set_option maxRecDepth 100000
def aCell (h : aH) (r : Option Nat) : Option (Nat × aO) := r.bind fun a => (h.2.2 a).map fun o => (a, o)
def asI : Value → Option Int32 := fun v => match v with
  | .int x => some x
  | _ => none
def asL : Value → Option Int64 := fun v => match v with
  | .long x => some x
  | _ => none
def asR : Value → Option (Option Nat) := fun v => match v with
  | .null => some none
  | .ref a => some (some a)
  | _ => none
theorem asI_eq {v : Value} {x : Int32} (h : asI v = some x) : v = .int x := by
  cases v <;> simp [asI] at h
  rw [h]
theorem asL_eq {v : Value} {x : Int64} (h : asL v = some x) : v = .long x := by
  cases v <;> simp [asL] at h
  rw [h]
theorem asR_eq {v : Value} {x : Option Nat} (h : asR v = some x) : v = va_rf x := by
  cases v <;> simp [asR] at h <;> subst h <;> rfl
theorem aCell_eq {h : aH} {r : Option Nat} {q : Nat × aO} (e : aCell h r = some q) : r = some q.1 ∧ h.2.2 q.1 = some q.2 := by
  unfold aCell at e
  cases r with
  | none => simp at e
  | some a =>
    simp only [Option.bind_some, Option.map_eq_some_iff] at e
    obtain ⟨o, h1, rfl⟩ := e
    exact ⟨rfl, h1⟩
/-- an object's field -/
def gF (h : aH) (t k : Nat) (r : Option Nat) : Option Value := (aCell h r).bind fun q => if q.2.1 = t then q.2.2[k]? else none
def gI (h : aH) (t k : Nat) (r : Option Nat) : Option Int32 := (gF h t k r).bind asI
def gL (h : aH) (t k : Nat) (r : Option Nat) : Option Int64 := (gF h t k r).bind asL
def gR (h : aH) (t k : Nat) (r : Option Nat) : Option (Option Nat) := (gF h t k r).bind asR
def pF (D : aD) (h : aH) (t k : Nat) (r : Option Nat) (v : Value) : Option aH := (aCell h r).bind fun q => if q.2.1 = t ∧ k < q.2.2.length ∧ b0 D ≤ q.1 then some (aUp h q.1 (t, q.2.2.set k v)) else none
theorem gF_eq {h : aH} {t k : Nat} {r : Option Nat} {v : Value} (e : gF h t k r = some v) : ∃ (a : Nat) (fs : List Value), r = some a ∧ h.2.2 a = some (t, fs) ∧ fs[k]? = some v := by
  unfold gF at e
  obtain ⟨⟨a, t', fs⟩, e1, e2⟩ := Option.bind_eq_some_iff.mp e
  obtain ⟨h1, h2⟩ := aCell_eq e1
  dsimp only at e2 h1 h2
  split at e2
  · rename_i ht
    subst ht
    exact ⟨a, fs, h1, h2, e2⟩
  · cases e2
theorem gI_eq {h : aH} {t k : Nat} {r : Option Nat} {x : Int32} (e : gI h t k r = some x) : gF h t k r = some (.int x) := by
  obtain ⟨v, h1, h2⟩ := Option.bind_eq_some_iff.mp e
  rw [h1, asI_eq h2]
theorem gL_eq {h : aH} {t k : Nat} {r : Option Nat} {x : Int64} (e : gL h t k r = some x) : gF h t k r = some (.long x) := by
  obtain ⟨v, h1, h2⟩ := Option.bind_eq_some_iff.mp e
  rw [h1, asL_eq h2]
theorem gR_eq {h : aH} {t k : Nat} {r : Option Nat} {x : Option Nat} (e : gR h t k r = some x) : gF h t k r = some (va_rf x) := by
  obtain ⟨v, h1, h2⟩ := Option.bind_eq_some_iff.mp e
  rw [h1, asR_eq h2]
theorem pF_eq {D : aD} {h h' : aH} {t k : Nat} {r : Option Nat} {v : Value} (e : pF D h t k r v = some h') : ∃ (a : Nat) (fs : List Value), r = some a ∧ h.2.2 a = some (t, fs) ∧ k < fs.length ∧ b0 D ≤ a ∧ h' = aUp h a (t, fs.set k v) := by
  unfold pF at e
  obtain ⟨⟨a, t', fs⟩, e1, e2⟩ := Option.bind_eq_some_iff.mp e
  obtain ⟨h1, h2⟩ := aCell_eq e1
  dsimp only at e2 h1 h2
  split at e2
  · rename_i ht
    obtain ⟨rfl, hk, hb⟩ := ht
    exact ⟨a, fs, h1, h2, hk, hb, (Option.some.inj e2).symm⟩
  · cases e2
/-- an array's element; which arrays hold references -/
def isRA (t : Nat) : Bool := t == 103 || (t == 104 || (t == 105 || t == 106))
def eF (h : aH) (t : Nat) (r : Option Nat) (i : Int32) : Option Value := (aCell h r).bind fun q => if q.2.1 = t ∧ ¬ i < 0 then q.2.2[i.toNatClampNeg]? else none
def eI (h : aH) (r : Option Nat) (i : Int32) : Option Int32 := (eF h 100 r i).bind asI
def eL (h : aH) (r : Option Nat) (i : Int32) : Option Int64 := (eF h 101 r i).bind asL
def eZ (h : aH) (r : Option Nat) (i : Int32) : Option Int32 := (eF h 102 r i).bind asI
def eR (h : aH) (r : Option Nat) (i : Int32) : Option (Option Nat) := (aCell h r).bind fun q => if isRA q.2.1 = true ∧ ¬ i < 0 then (q.2.2[i.toNatClampNeg]?).bind asR else none
def eN (h : aH) (r : Option Nat) : Option Int32 := (aCell h r).bind fun q => if 100 ≤ q.2.1 ∧ q.2.1 < 107 then some q.2.2.length.toInt32 else none
def sF (D : aD) (h : aH) (t : Nat) (r : Option Nat) (i : Int32) (v : Value) : Option aH := (aCell h r).bind fun q => if q.2.1 = t ∧ ¬ i < 0 ∧ i.toNatClampNeg < q.2.2.length ∧ b0 D ≤ q.1 then some (aUp h q.1 (t, q.2.2.set i.toNatClampNeg v)) else none
/-- may a cell of this tag stand in an array of references? -/
def aFit (t t' : Nat) : Bool := (t == 103 && (decide (t' < 23) || t' == 100)) || ((t == 104 && t' == 100) || (t == 105 && t' == 102))
def sR (D : aD) (h : aH) (r : Option Nat) (i : Int32) (x : Option Nat) : Option aH := (aCell h r).bind fun q => if isRA q.2.1 = true ∧ ¬ i < 0 ∧ i.toNatClampNeg < q.2.2.length ∧ b0 D ≤ q.1 ∧ (x = none ∨ ∃ w, aCell h x = some w ∧ aFit q.2.1 w.2.1 = true) then some (aUp h q.1 (q.2.1, q.2.2.set i.toNatClampNeg (va_rf x))) else none
theorem sF_eq {D : aD} {h h' : aH} {t : Nat} {r : Option Nat} {i : Int32} {v : Value} (e : sF D h t r i v = some h') : ∃ (a : Nat) (fs : List Value), r = some a ∧ h.2.2 a = some (t, fs) ∧ ¬ i < 0 ∧ i.toNatClampNeg < fs.length ∧ b0 D ≤ a ∧ h' = aUp h a (t, fs.set i.toNatClampNeg v) := by
  unfold sF at e
  obtain ⟨⟨a, t', fs⟩, e1, e2⟩ := Option.bind_eq_some_iff.mp e
  obtain ⟨h1, h2⟩ := aCell_eq e1
  dsimp only at e2 h1 h2
  split at e2
  · rename_i ht
    obtain ⟨rfl, hk, hb, hc⟩ := ht
    exact ⟨a, fs, h1, h2, hk, hb, hc, (Option.some.inj e2).symm⟩
  · cases e2
theorem eF_eq {h : aH} {t : Nat} {r : Option Nat} {i : Int32} {v : Value} (e : eF h t r i = some v) : ∃ (a : Nat) (fs : List Value), r = some a ∧ h.2.2 a = some (t, fs) ∧ ¬ i < 0 ∧ fs[i.toNatClampNeg]? = some v := by
  unfold eF at e
  obtain ⟨⟨a, t', fs⟩, e1, e2⟩ := Option.bind_eq_some_iff.mp e
  obtain ⟨h1, h2⟩ := aCell_eq e1
  dsimp only at e2 h1 h2
  split at e2
  · rename_i ht
    obtain ⟨rfl, hk⟩ := ht
    exact ⟨a, fs, h1, h2, hk, e2⟩
  · cases e2
/-- a field's entry: class own's entry 'index' is field k of the class with tag t, of the type that d9 tells -/
def aLk (own : String) (index t k : Nat) (C : String) (T : u_T) (N : Nat) (d9 : String) (fin : Bool) : Prop :=
  aCl[t]? = some (C, T, N) ∧ k < N ∧ (∀ w ∈ u_ws C T N, w ∈ lw_all) ∧ (T k).2.2.1 = d9 ∧ (T k).2.2.2 = fin ∧
  ∃ ref : String, (ref = (T k).1 ∨ Cond.sameField ref (T k).1 (T k).2.1 d9 ∈ lw_all) ∧ (Cond.fieldLink own index ref (T k).2.1 d9 ∈ lw_all ∨ ∃ host : String, Cond.fieldLinkNest own index ref (T k).2.1 d9 host ∈ lw_tbl)
theorem gN {w : Cond} (h : w ∈ lw_tbl) (g : gOk w = true) {s : State} {args : Array Value} (hT : gT s) : w.before args s = true := hT.use (g_in h g)
section AF
variable {p : Program} {l : Launch} {e : Env} {R : Room} {s : State} {m : MethodId} {args : Array Value} {below : List Frame} {meth : Method} {c : Code} {D : aD} {n0 s0 : Nat} {Q : State → Prop}
variable {own : String} {cc : ByteArray} {rf rl nL : Nat} {h h' : aH} {pc : Nat} {lv : aLv} {st : List Value}
theorem v_getF (C : aC p l R s m meth c D n0 s0 own cc rf rl nL) {C9 : String} {T : u_T} {N index t k9 : Nat} {d9 : String} {fin : Bool} {r : Option Nat} {v : Value} (lk : aLk own index t k9 C9 T N d9 fin) (hf : gF h t k9 r = some v) (d : decode cc pc = .ok (.getfield index, 3)) (k : V p l e R s m args below meth c D n0 s0 Q h (pc + 3) lv (v :: st)) : V p l e R s m args below meth c D n0 s0 Q h pc lv (va_rf r :: st) := by
  intro H locs k' n ls h1 h2 h3 h4 h5 h6 h7
  obtain ⟨a, fs, rfl, ha, hv⟩ := gF_eq hf
  obtain ⟨hc, hk, hin, rfl, -, ref, hsame, hlink⟩ := lk
  have hT := C.2.2.2.1.1
  have hts : ∀ w ∈ lw_all, w.before args s = true := fun w hw => hT.use (g_all hw)
  obtain ⟨cell, q1, q2, q3, q4, q5, q6⟩ := h1.2.2.2 a _ ha
  have ht : t < 100 := by
    have : t < aCl.length := (List.getElem?_eq_some_iff.mp hc).1
    exact Nat.lt_of_lt_of_le this (by decide)
  obtain ⟨-, r', hr', hlen, q6⟩ := q6.resolve_right (fun z => by have z1 := z.1; dsimp only at z1; omega)
  have hr : r' = (C9, T, N) := Option.some.inj (hr'.symm.trans hc)
  subst hr
  obtain ⟨hS, hfc, kC, hkC, hkind⟩ := C.2.2.2.1.2.1 t _ hc
  obtain ⟨cf, kf, fi, f, hi, hsl⟩ := hS k9 hk
  have hfound : s.fieldFound? ref (T k9).2.1 (T k9).2.2.1 = some (cf, kf, fi, f) := by
    rcases hsame with rfl | hsame
    · exact hi
    · exact u_same (hts _ hsame) _ hi
  have hslot : cell.slots[f.slot]? = some v := by
    rw [hsl, q6 k9 hk]
    simp [vp_V, hv]
  rcases hlink with hl | ⟨host, hl⟩
  · exact W.getf C.1 C.2.1 C.2.2.1 (hts _ hl) hfound (u_facts hfc hkC (u_lays hts hin hk) hi).1 q1 q4 (v := v) hslot rfl rfl d (k H locs k' n ls h1 h2 h3 h4 h5 h6 h7)
  · exact va_Wgetf C.1 C.2.1 C.2.2.1 (gN hl rfl hT) hfound (u_facts hfc hkC (u_lays hts hin hk) hi).1 q1 q4 (v := v) hslot rfl rfl d (k H locs k' n ls h1 h2 h3 h4 h5 h6 h7)
theorem v_putF (C : aC p l R s m meth c D n0 s0 own cc rf rl nL) {C9 : String} {T : u_T} {N index t k9 : Nat} {d9 : String} {r : Option Nat} {v : Value} {ty : FieldType} (lk : aLk own index t k9 C9 T N d9 false) (ty0 : Nat → FieldType) (hty : ∀ k, k < N → parseFieldDescriptor (T k).2.2.1 = some (ty0 k)) (hnm : ∀ a, a < N → ∀ b, b < N → a ≠ b → (T a).2.1 ≠ (T b).2.1) (hd : parseFieldDescriptor d9 = some ty) (hn : narrow ty v = v) (hfit : fits ty v = true) (hf : pF D h t k9 r v = some h') (d : decode cc pc = .ok (.putfield index, 3)) (k : V p l e R s m args below meth c D n0 s0 Q h' (pc + 3) lv st) : V p l e R s m args below meth c D n0 s0 Q h pc lv (v :: va_rf r :: st) := by
  intro H locs k' n ls h1 h2 h3 h4 h5 h6 h7
  obtain ⟨a, fs, rfl, ha, hlt, hb0, rfl⟩ := pF_eq hf
  obtain ⟨hc, hk, hin, rfl, hfin, ref, hsame, hlink⟩ := lk
  have hT := C.2.2.2.1.1
  have hts : ∀ w ∈ lw_all, w.before args s = true := fun w hw => hT.use (g_all hw)
  obtain ⟨cell, q1, q2, q3, q4, q5, q6⟩ := h1.2.2.2 a _ ha
  have ht : t < 100 := by
    have : t < aCl.length := (List.getElem?_eq_some_iff.mp hc).1
    exact Nat.lt_of_lt_of_le this (by decide)
  obtain ⟨-, r', hr', hlen, q6⟩ := q6.resolve_right (fun z => by have z1 := z.1; dsimp only at z1; omega)
  have hr : r' = (C9, T, N) := Option.some.inj (hr'.symm.trans hc)
  subst hr
  obtain ⟨hvm, -⟩ := q5 hb0
  have hap := va_apart (own := own) hts hin ty0 hty hnm C.2.2.2.1.K hc
  obtain ⟨hS, hfc, kC, hkC, hkind⟩ := C.2.2.2.1.2.1 t _ hc
  obtain ⟨cf, kf, fi, f, hi, hsl⟩ := hS k9 hk
  have hfound : s.fieldFound? ref (T k9).2.1 (T k9).2.2.1 = some (cf, kf, fi, f) := by
    rcases hsame with rfl | hsame
    · exact hi
    · exact u_same (hts _ hsame) _ hi
  have hlay := hts _ (hin _ (u_in_lay hk))
  unfold u_lay at hlay
  rw [if_neg (by rw [hfin]; decide)] at hlay
  have hst := (u_facts hfc hkC (u_lays hts hin hk) hi).1
  have h6' := u_store hfc hkC hkind hlay hi hd hn hfit
  have hcls : cell.cls = D.1.1 t := q2
  have hslt : f.slot < cell.slots.size := by rw [hsl]; exact k2_hasslot (q6 k9 hk)
  have hset := t_set q6 hap hk v
  have fin : ∀ H' : Heap, H'[a]? = some (cell.setSlot f.slot v) → H'.size = H.size → (∀ q, q ≠ a → H'[q]? = H[q]?) → W p l e R s m args below meth c H' (locs ++ [⟨a, f.slot⟩]) k' n Q (F0 m (pc + 3) ls st) := by
    intro H' e1 e2 e3
    refine k H' _ k' n ls (h1.up e2 e3 ?_) (h2.up e2 e3 hb0) (by rw [e2]; exact h3) (fun z hz => ?_) h5 h6 h7
    · refine ⟨_, e1, hcls, q3, q4, fun _ => ⟨hvm, fun z => by dsimp only at z; omega⟩, Or.inl ⟨ht, _, hc, by dsimp only; rw [List.length_set]; exact hlen, fun j hj => ?_⟩⟩
      have := hset j hj
      rw [hsl]
      rw [vp_updV_set hlt v j] at this
      exact this
    · rcases List.mem_append.mp hz with hz | hz
      · exact h4 z hz
      · rw [List.mem_singleton.mp hz]; exact hb0
  rcases hlink with hl | ⟨host, hl⟩
  · exact W.putK C.1 C.2.1 (f := f) ⟨C.2.2.1, hts _ hl, ⟨_, _, _, hfound⟩, hst⟩ (by rw [hcls]; exact h6') q1 hvm hslt rfl rfl d fin
  · exact va_WputK C.1 C.2.1 (f := f) C.2.2.1 (gN hl rfl hT) hfound hst (by rw [hcls]; exact h6') q1 hvm hslt rfl rfl d fin
theorem v_putC (C : aC p l R s m meth c D n0 s0 own cc rf rl nL) (hinit : meth.name = "<init>") {C9 : String} {T : u_T} {N index t k9 : Nat} {d9 : String} {r : Option Nat} {v : Value} {ty : FieldType} (lk : aLk own index t k9 C9 T N d9 true) (hdecl : (T k9).1 = own) (hll : Cond.fieldLink own index (T k9).1 (T k9).2.1 d9 ∈ lw_all) (ty0 : Nat → FieldType) (hty : ∀ k, k < N → parseFieldDescriptor (T k).2.2.1 = some (ty0 k)) (hnm : ∀ a, a < N → ∀ b, b < N → a ≠ b → (T a).2.1 ≠ (T b).2.1) (hd : parseFieldDescriptor d9 = some ty) (hn : narrow ty v = v) (hfit : fits ty v = true) (hf : pF D h t k9 r v = some h') (d : decode cc pc = .ok (.putfield index, 3)) (k : V p l e R s m args below meth c D n0 s0 Q h' (pc + 3) lv st) : V p l e R s m args below meth c D n0 s0 Q h pc lv (v :: va_rf r :: st) := by
  intro H locs k' n ls h1 h2 h3 h4 h5 h6 h7
  obtain ⟨a, fs, rfl, ha, hlt, hb0, rfl⟩ := pF_eq hf
  obtain ⟨hc, hk, hin, rfl, hfin, -⟩ := lk
  have hT := C.2.2.2.1.1
  have hts : ∀ w ∈ lw_all, w.before args s = true := fun w hw => hT.use (g_all hw)
  obtain ⟨cell, q1, q2, q3, q4, q5, q6⟩ := h1.2.2.2 a _ ha
  have ht : t < 100 := by
    have : t < aCl.length := (List.getElem?_eq_some_iff.mp hc).1
    exact Nat.lt_of_lt_of_le this (by decide)
  obtain ⟨-, r', hr', hlen, q6⟩ := q6.resolve_right (fun z => by have z1 := z.1; dsimp only at z1; omega)
  have hr : r' = (C9, T, N) := Option.some.inj (hr'.symm.trans hc)
  subst hr
  obtain ⟨hvm, -⟩ := q5 hb0
  have hap := va_apart (own := own) hts hin ty0 hty hnm C.2.2.2.1.K hc
  obtain ⟨hS, hfc, kC, hkC, hkind⟩ := C.2.2.2.1.2.1 t _ hc
  obtain ⟨cf, kf, fi, f, hi, hsl⟩ := hS k9 hk
  have hlay := hts _ (hin _ (u_in_lay hk))
  unfold u_lay at hlay
  rw [if_pos hfin] at hlay
  have hst := (u_facts hfc hkC (u_lays hts hin hk) hi).1
  have hcf : m.cls = cf := by
    obtain ⟨_, _, c', _, _, _, -, -, hf', -, -, -, hown2, -⟩ := Cond.laysFinal_spec hlay
    have e1 : c' = cf := by have := hi.symm.trans hf'; simp at this; exact this.1.symm
    rw [hdecl] at hown2
    rw [← e1]; exact Option.some.inj (C.2.2.1.symm.trans hown2)
  have h6' := u_fits hfc hkC hkind (Or.inr hlay) hi hd hn hfit
  have hcls : cell.cls = D.1.1 t := q2
  have hslt : f.slot < cell.slots.size := by rw [hsl]; exact k2_hasslot (q6 k9 hk)
  have hset := t_set q6 hap hk v
  refine W.putFinK C.1 C.2.1 C.2.2.1 (hts _ hll) hi hst hcf hinit (by rw [hcls]; exact h6') q1 hvm hslt rfl rfl d fun H' e1 e2 e3 => ?_
  refine k H' _ k' n ls (h1.up e2 e3 ?_) (h2.up e2 e3 hb0) (by rw [e2]; exact h3) (fun z hz => ?_) h5 h6 h7
  · refine ⟨_, e1, hcls, q3, q4, fun _ => ⟨hvm, fun z => by dsimp only at z; omega⟩, Or.inl ⟨ht, _, hc, by dsimp only; rw [List.length_set]; exact hlen, fun j hj => ?_⟩⟩
    have := hset j hj
    rw [hsl]
    rw [vp_updV_set hlt v j] at this
    exact this
  · rcases List.mem_append.mp hz with hz | hz
    · exact h4 z hz
    · rw [List.mem_singleton.mp hz]; exact hb0
end AF
