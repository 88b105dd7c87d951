/-! ===== the law's wrappers: what is thrown is caught ===== -/
set_option maxRecDepth 100000
def aQw (D : aD) (h : aH) (x : Int32) (h2 : aH) : Array Value → State → Outcome → State → Prop := fun _ st o t => o = .returned (some (.int x)) ∧ (∃ h' : aH, h'.2 = h2.2 ∧ h2.1 ≤ h'.1 + 1 ∧ h'.1 ≤ h2.1 ∧ aRel D h' t.heap) ∧ aOld D t.heap ∧ st.heap.size ≤ t.heap.size ∧ h.1 ≤ h2.1 ∧ h.2.1 ≤ h2.2.1
def aXf : String → State → State → Prop := fun _ _ _ => False
def aMw (l : Launch) (D : aD) (y : MethodName) (cc : ByteArray) (maxL : Nat) (hh : List (Nat × Nat × Nat × Nat)) (rf rl : Nat) (as : List Value) (h : aH) (x : Int32) (h2 : aH) : Prop :=
  vx_Met l y [Cond.codeWith y cc maxL (some .int) hh] (aRm D h rf rl) (aPc D as h) (aQw D h x h2) aXf (h2.1 - h.1) (h2.2.1 - h.2.1) (aA D)
def aEndw (D : aD) (below : List Frame) (args : Array Value) (s : State) (h : aH) (x : Int32) (h2 : aH) : State → Prop :=
  vx_MQ below (aQw D h x h2) aXf args s (h2.1 - h.1) (h2.2.1 - h.2.1) (aA D)
def aXw (p : Program) (l : Launch) (R : Room) (s : State) (m : MethodId) (meth : Method) (c : Code) (D : aD) (n0 s0 : Nat) (y : MethodName) (cc : ByteArray) (rf rl nL : Nat) (hh : List (Nat × Nat × Nat × Nat)) (h0 : aH) : Prop :=
  aC p l R s m meth c D n0 s0 y.cls cc rf rl nL ∧ n0 = h0.1 ∧ s0 = h0.2.1 ∧ meth.sig.returnType = some .int ∧ c.exceptionTable.toList = tableOf hh ∧ s.heap.size = h0.1
theorem aMw.of {l : Launch} {D : aD} {y : MethodName} {cc : ByteArray} {maxL : Nat} {hh : List (Nat × Nat × Nat × Nat)} {rf rl : Nat} {as : List Value} (ps : List (Bool × Value)) (has : ps.map (·.2) = as) (hps : ∀ q ∈ ps, q.1 = (q.2.category == 2)) {h h2 : aH} {x : Int32} (hy : plainName y.cls = true) (hst : l.stackTraces = false) (hn : (lg_sl as).length ≤ maxL)
    (body : ∀ p e s m args below meth c, aXw p l (aRm D h rf rl) s m meth c D h.1 h.2.1 y cc rf rl maxL hh h →
      V p l e (aRm D h rf rl) s m args below meth c D h.1 h.2.1 (aEndw D below args s h x h2) h 0 (aArgs 0 ps) []) : aMw l D y cc maxL hh rf rl as h x h2 := by
  refine vx_ofWH (cc := cc) (maxL := maxL) (ret := some .int) (hh := hh) hy rfl ?_
  intro p e s m args below meth c s₁ B hml hP
  obtain ⟨rfl, hV, hO, hR⟩ := hP
  have hl := lv_entry as (n := maxL) hn
  have htab := vx_table (x := y) B (atoms_spec (ws := [Cond.codeWith y cc maxL (some .int) hh]) B.pre _ List.mem_cons_self)
  rw [lg_entry_eq]
  refine body p e s m as.toArray below meth c ⟨⟨B.exec, B.bytes, findClass_of_methodNamed B.named, hV, B.notSynchronized, Nat.le_refl _, Nat.le_refl _, ?_, ?_, hst, hO, hml⟩, rfl, rfl, B.returns, htab, hR.1⟩ s.heap [] 0 0 _ hR hO (Nat.le_refl _) (fun z hz => by cases hz) (by omega) (by omega) ⟨by rw [hml, aArgs_map ps 0 hps, has]; exact hl, aArgs_cat ps 0 hps⟩
  · show D.2.1 ≤ (D.2.1 - h.1) + h.1
    omega
  · show D.2.2.1 ≤ (D.2.2.1 - h.2.1) + h.2.1
    omega
section AWR
variable {p : Program} {l : Launch} {e : Env} {R : Room} {s : State} {m : MethodId} {args : Array Value} {below : List Frame} {meth : Method} {c : Code} {D : aD} {n0 s0 : Nat} {Q : State → Prop}
variable {own : String} {cc : ByteArray} {rf rl nL : Nat} {h h' : aH} {pc : Nat} {lv : aLv} {st : List Value}
theorem v_wret {y : MethodName} {hh : List (Nat × Nat × Nat × Nat)} {h0 : aH} {x : Int32} (X : aXw p l R s m meth c D n0 s0 y cc rf rl nL hh h0) (d : decode cc pc = .ok (.ireturn, 1)) : V p l e R s m args below meth c D n0 s0 (aEndw D below args s h0 x h) h pc lv [.int x] := by
  intro H locs k' n ls h1 h2 h3 h4 h5 h6 h7
  obtain ⟨C, hn0, hs0, hret, -, -⟩ := X
  refine vx_ret ?_
  refine W.widen (k := h.1 - h0.1) (n := h.2.1 - h0.2.1) (by omega) (by omega) ?_
  exact W.iret C.1 C.2.1 hret (fun t ht hW => ⟨rfl, ⟨h, rfl, Nat.le_succ _, Nat.le_refl _, by rw [ht]; exact h1⟩, by rw [ht]; exact h2, by rw [ht]; exact h3, by omega, by omega⟩) h4 d C.2.2.2.2.1
def hDec (cc : ByteArray) (hpc : Nat) (x : Int32) (nL : Nat) : Prop :=
  ∃ (i len : Nat) (z : Int), i < nL ∧ ((decode cc hpc = .ok (.astore i, 2) ∧ len = 2) ∨ (∃ f : Fin 4, (f : Nat) = i ∧ decode cc hpc = .ok (.astore_n f, 1) ∧ len = 1)) ∧ decode cc (hpc + len) = .ok (.iconst z, 1) ∧ Int32.ofInt z = x ∧ decode cc (hpc + len + 1) = .ok (.ireturn, 1)
theorem v_ofDc {y : MethodName} {hh : List (Nat × Nat × Nat × Nat)} {h0 h2 : aH} {x : Int32} {ek : Nat} {rest : List Value} {a : Array Value} {len : Nat} (X : aXw p l R s m meth c D n0 s0 y cc rf rl nL hh h0) (pre suf : List (Nat × Nat × Nat × Nat)) {f0 f1 hpc ct : Nat} (hsp : hh = pre ++ (f0, f1, hpc, ct) :: suf)
    (hpass : ∀ z ∈ pre, z.2.2.2 ≠ 0 ∧ ∃ nm : String, Cond.classLink y.cls z.2.2.2 nm ∈ lw_all ∧ (aExn ek, nm) ∈ aNc) (hcov : f0 ≤ pc ∧ pc < f1) (h0' : ct ≠ 0) (hlink : Cond.classLink y.cls ct (aExn ek) ∈ lw_all) (hcast : Cond.castable (aExn ek) (aExn ek) ∈ lw_tbl) (hD : hDec cc hpc x nL) (hle : h0.1 ≤ h.1) (hls : h0.2.1 ≤ h.2.1)
    (hd : aD9 p l e R s m args below meth c D n0 s0 h (.inl ek, h2) pc st rest a len) :
    V p l e R s m args below meth c D n0 s0 (aEndw D below args s h0 x h2) h pc lv st := by
  intro H locs k n ls h1 h2' h3 h4 h5 h6 h7 T hT X1
  obtain ⟨C, hn0, hs0, hret, htab, hsz⟩ := X
  rcases hd H locs k n ls h1 h2' h3 h5 h6 h7.1.1 T hT X1 with ⟨v, vm₁, ⟨U', l2, c2, s2⟩, hW₁, X', ⟨g', mk, t, L, e1, e2, ⟨r', hr', -⟩, -⟩, stp⟩ | ⟨q, vm₁, ⟨U', l2, c2, s2⟩, hW₁, X', ⟨g', mk, t, L, E, ce, e1, e2, ⟨ek', hek, hE, w1, w2, w3, w4, w5, w6⟩, hce, hcv, hcl, d1, hL, d2, d3⟩, stp⟩
  · cases hr'
  · dsimp only [Pt.U, Pt.locs, Pt.cells, Pt.slots] at X' e1 e2 d1 d2 d3 stp w1 w4 w5 w6 hek hcl
    cases hek
    subst d1; subst d2; subst d3
    subst hE
    have hcl' : s.vm.findClass (aExn ek) = some ce.cls := vx_cls (T := T) hW₁ hcl
    have hG := C.2.2.2.1.1
    have hNc := C.2.2.2.1.2.2.2.2.1.2.2.2.1
    have hh1 : t.heap.size ≤ h2.1 := by
      have hu := X'.heapSize
      rw [e1, hsz] at hu
      omega
    have w3' : H.size ≤ t.heap.size := by rw [← hT]; exact w3
    obtain ⟨i, len9, z, hi, hdi, dz, hz, dr⟩ := hD
    subst hz
    have fin : ∀ ls9 : Array Slot, W p l e R s m args below meth c t.heap (locs ++ L) (k + (h2.1 - h.1)) (n + (h2.2.1 - h.2.1)) (aEndw D below args s h0 (Int32.ofInt z) h2) (F0 m (hpc + len9) ls9 []) := by
      intro ls9
      refine lv_iconst C.1 C.2.1 dz rfl ?_
      refine vx_ret ?_
      refine W.widen (k := h2.1 - h0.1) (n := h2.2.1 - h0.2.1) (by omega) (by omega) ?_
      refine W.iret C.1 C.2.1 hret (fun t9 ht hW => ⟨rfl, ⟨(t.heap.size, h2.2), rfl, w6, hh1, by rw [ht]; exact ⟨rfl, Nat.le_trans hh1 w1.1, w1.2.1, w1.2.2⟩⟩, by rw [ht]; exact w2, by rw [ht]; exact Nat.le_trans h3 w3', by omega, by omega⟩) (fun z hz => by
        rcases List.mem_append.mp hz with hz | hz
        · exact h4 z hz
        · exact hL z hz) dr C.2.2.2.2.1
    have hand : W p l e R s m args below meth c t.heap (locs ++ L) (k + (h2.1 - h.1)) (n + (h2.2.1 - h.2.1)) (aEndw D below args s h0 (Int32.ofInt z) h2) (F0 m hpc ls [.ref q]) := by
      obtain ⟨ls', e', -⟩ := h7.st1 (v := .ref q) (i := i) (by rw [C.2.2.2.2.2.2.2.2.2.2.2]; exact hi) rfl rfl
      intro T9 hT9 X9
      obtain ⟨t9, a9, b9⟩ := fin ls' T9 hT9 X9
      refine ⟨t9, ?_, b9⟩
      rcases hdi with ⟨da, rfl⟩ | ⟨f, rfl, da, rfl⟩
      · jvm_step X9.here [X9.here.top, ↓top_set X9.here.top, C.1, C.2.1, da, e', Value.isRef]
        exact a9
      · jvm_step X9.here [X9.here.top, ↓top_set X9.here.top, C.1, C.2.1, da, e', Value.isRef]
        exact a9
    have hsp' : c.exceptionTable.toList = pre.map (fun q => (⟨q.1, q.2.1, q.2.2.1, q.2.2.2⟩ : ExceptionTableEntry)) ++ (⟨f0, f1, hpc, ct⟩ : ExceptionTableEntry) :: suf.map (fun q => (⟨q.1, q.2.1, q.2.2.1, q.2.2.2⟩ : ExceptionTableEntry)) := by
      rw [htab, hsp]
      simp [tableOf]
    have := vx_catch (p := p) (l := l) (e := e) (R := R) (args := args) (below := below) (pc := pc) (rest := rest) C.2.2.1 _ _ _ hsp' (fun z9 hz9 => by
      obtain ⟨z8, hz8, rfl⟩ := List.mem_map.mp hz9
      obtain ⟨y1, nm, y2, y3⟩ := hpass z8 hz8
      exact Or.inr ⟨y1, nm, hG.use (g_all y2), hNc _ y3⟩) (by simp [covers]; omega) h0' (hG.use (g_all hlink)) (gN hcast rfl hG) hce hcv hcl' hand
    obtain ⟨t2, a1, b1⟩ := this U' e1 X'
    exact ⟨t2, stp.trans a1, b1⟩
end AWR
def bndW {α : Type} (o : Option ((Nat ⊕ α) × aH)) (cd : Nat → Option Int32) (f : α → aH → Option (Int32 × aH)) : Option (Int32 × aH) := o.bind fun q => match q.1 with
  | .inl k => (cd k).map fun c => (c, q.2)
  | .inr a => f a q.2
theorem bndW_eq {α : Type} {o : Option ((Nat ⊕ α) × aH)} {cd : Nat → Option Int32} {f : α → aH → Option (Int32 × aH)} {r : Int32 × aH} (h : bndW o cd f = some r) : (∃ k c h1, o = some (.inl k, h1) ∧ cd k = some c ∧ r = (c, h1)) ∨ ∃ a h1, o = some (.inr a, h1) ∧ f a h1 = some r := by
  obtain ⟨⟨q, h1⟩, e1, e2⟩ := Option.bind_eq_some_iff.mp h
  cases q with
  | inl k =>
    obtain ⟨c, e3, e4⟩ := Option.map_eq_some_iff.mp e2
    exact Or.inl ⟨k, c, h1, e1, e3, e4.symm⟩
  | inr a => exact Or.inr ⟨a, h1, e1, e2⟩
theorem bndW_inr {α : Type} (a : α) (h : aH) (cd : Nat → Option Int32) (f : α → aH → Option (Int32 × aH)) : bndW (some (.inr a, h)) cd f = f a h := rfl
theorem bndW_inl {α : Type} (k : Nat) (h : aH) (cd : Nat → Option Int32) (f : α → aH → Option (Int32 × aH)) : bndW (some (.inl k, h)) cd f = (cd k).map fun c => (c, h) := rfl
