/-! ===== lambdas: the call inside, and the call ===== -/
set_option maxRecDepth 100000
section ALP
variable {p : Program} {l : Launch} {e : Env} {R : Room} {s : State} {m : MethodId} {args : Array Value} {below : List Frame} {meth : Method} {c : Code} {D : aD} {n0 s0 : Nat} {Q : State → Prop}
variable {own : String} {cc : ByteArray} {rf rl nL : Nat} {h h' : aH} {pc : Nat} {lv : aLv} {st : List Value}
/-- the made method's frame: what its walk may lean on -/
def hX (p : Program) (R : Room) (s : State) (m : MethodId) (meth : Method) (c : Code) (D : aD) (n0 s0 : Nat) (ownL : String) (code : Array UInt8) (rf rl hm : Nat) (rt : FieldType) (fi : List (Nat × Nat × Nat)) (types : Array FieldType) (mi ci nt : Nat) (y : MethodName) (h0 : aH) : Prop :=
  p.tables.exec = Jvm.exec ∧ c.code = ⟨code⟩ ∧ aVm D s ∧ meth.locks = false ∧ rf ≤ R.frames ∧ rl ≤ R.locals ∧ D.2.1 ≤ R.cells + n0 ∧ D.2.2.1 ≤ R.slots + s0 ∧ c.maxLocals = hm ∧ n0 = h0.1 ∧ s0 = h0.2.1 ∧ meth.sig.returnType = some rt ∧ (∀ U : State, s.WarmedH U.vm → lmF U.vm m.cls ownL code hm rt fi types mi ci nt y)
section HX
variable {ownL : String} {code : Array UInt8} {hm mi ci nt : Nat} {rt : FieldType} {fi : List (Nat × Nat × Nat)} {types : Array FieldType} {y : MethodName} {h0 : aH}
theorem hStart (X0 : hX p R s m meth c D n0 s0 ownL code rf rl hm rt fi types mi ci nt y h0) {H : Heap} {k n : Nat} {as : List Value} (h1 : aRel D h H) (h2 : aOld D H) (h5 : k + n0 ≤ h.1) (h6 : n + s0 ≤ h.2.1) {T : State} (hT : T.heap = H) (hW : s.WarmedH T.vm) :
    (k + (D.2.1 - h.1) ≤ R.cells ∧ n + (D.2.2.1 - h.2.1) ≤ R.slots ∧ aPc D as h as.toArray T) := by
  have g1 := X0.2.2.2.2.2.2.1
  have g2 := X0.2.2.2.2.2.2.2.1
  have q1 := h1.2.1
  have q2 := h1.2.2.1
  exact ⟨by omega, by omega, rfl, X0.2.2.1.moved (U := T) hW, by rw [hT]; exact h2, by rw [hT]; exact h1⟩
theorem hv_callV (X0 : hX p R s m meth c D n0 s0 ownL code rf rl hm rt fi types mi ci nt y h0) {t0 b0 : Nat} {fs0 As : List Value} {cc' : ByteArray} {maxL' n9 rf' rl' : Nat} {ret' : Option FieldType} {res : aRes} (hb0 : h.2.2 b0 = some (t0, fs0)) (hnm : aNmT t0 y.cls) (hi : aYi y y.cls) (hY : aY y cc' maxL' ret' n9) (hn : As.length = n9) (h9 : rf' + 1 ≤ rf) (h8 : 8 + (maxL' + 11) + rl' ≤ rl) (hM : aM l D y cc' maxL' ret' rf' rl' (.ref b0 :: As) h res) (d : decode ⟨code⟩ pc = .ok (.invokevirtual mi, 3)) :
    aD9 p l e R s m args below meth c D n0 s0 h res pc (As.reverse ++ [.ref b0]) [] (.ref b0 :: As : List Value).toArray 3 := by
  intro H locs k' n ls h1 h2 h3 h5 h6 h7 T hT X
  have hV := X0.2.2.1
  have hVT : aVm D T := hV.moved X.warmed
  obtain ⟨k, tk, file, methk, ck, toy, t, ⟨r1, r2, r3, r4, r5⟩, -, ⟨u1, u2, u3, u4⟩, w1, w2, -⟩ := X0.2.2.2.2.2.2.2.2.2.2.2.2 T X.warmed
  obtain ⟨mt, sg, g1, g2, g3, g4, g5⟩ := lm_tgt hVT.1 hY u1 u2 u4
  obtain ⟨m9, me9, n1, n2, n3, n4⟩ := Cond.instanceMethod_spec (hVT.1.use (args := #[]) (g_all hi.1))
  cases g1.symm.trans n1
  cases g3.symm.trans n2
  obtain ⟨c9, r9, m9, s1, s2, s3, s4, mk9, s5, s6⟩ := Cond.selects_spec (hVT.1.use (args := #[]) (g_all hi.2))
  cases g1.symm.trans s3
  have hr9 : r9 = t := Option.some.inj (s2.symm.trans (State.methodFound?_of_named g1 hY.2.2.1))
  subst hr9
  obtain ⟨cellB, c1, c2, c3⟩ := (h1.2.2.2 b0 _ hb0).recv hVT hnm
  have hc9 : c9 = cellB.cls := Option.some.inj (s1.symm.trans c3)
  subst hc9
  have hsel : selectMethod e.platform T.vm cellB.cls r9 = .method r9 := by rw [Launch.admits_selectMethod X.admits]; exact s4
  have hd : decode c.code pc = .ok (.invokevirtual mi, 3) := by rw [X0.2.1]; exact d
  have hK := aK0 (p := p) (e := e) (below := below) (args := args) (len := 3) hV hY hM (Nat.le_trans h9 X0.2.2.2.2.1) (Nat.le_trans h8 X0.2.2.2.2.2.1)
  have hst0 : (F0 m pc ls (As.reverse ++ [Value.ref b0])).stack = As.reverse ++ .ref b0 :: [] := rfl
  have hkr : T.vm.classes[r9.cls]? = some tk := by rw [g2]; exact u2
  have hstep : ∀ target, Steps p.tables e below (doInvoke e (T.setTop { F0 m pc ls (As.reverse ++ [Value.ref b0]) with stack := [] }) [] r9 (.ref b0 :: As : List Value).toArray).1 target → Steps p.tables e below (T.setTop (F0 m pc ls (As.reverse ++ [Value.ref b0]))) target := by
    intro target hgo
    jvm_step X.here [X0.1, hd, invokevirtual.wp_ready (e := e) (s := T) (r := r9) (m := r9) (k := tk) (mk := tk) (rmeth := mt) (meth := mt) (a := b0) (args := As) (rest := []) (cell := cellB) (f := F0 m pc ls (As.reverse ++ [Value.ref b0])) X.here.top ⟨k, file, ci, nt, toy, tk, r1, r3, r4, w2, u2, u3⟩ w1 hkr g3 (g4 _) n3 (hn.trans g5.symm) hst0 (by rw [hT]; exact c1) (fun q hq => by rw [hq] at c2; cases c2) hsel g3 n4 hkr u3]
    intro acts
    rw [doInvoke_state]
    exact hgo
  rcases hK m meth c ⟨T, locs, k', n⟩ { F0 m pc ls (As.reverse ++ [Value.ref b0]) with stack := [] } (.invokevirtual mi) r9 (.ref b0 :: As : List Value).toArray X rfl h7 hd (by show 2 * 0 + 0 ≤ 8; decide) g1 (hStart X0 h1 h2 h5 h6 hT X.warmed) with ⟨v, B, X', hpost, steps⟩ | ⟨q, B, X', hpost, steps⟩
  · exact Or.inl ⟨v, T.vm, B, X.warmed, X', hpost, fun target ht => hstep target (steps.trans ht)⟩
  · exact Or.inr ⟨q, T.vm, B, X.warmed, X', hpost, hstep _ steps⟩
theorem hv_callS (X0 : hX p R s m meth c D n0 s0 ownL code rf rl hm rt fi types mi ci nt y h0) {As : List Value} {cc' : ByteArray} {maxL' n9 rf' rl' : Nat} {ret' : Option FieldType} {res : aRes} (hi : Cond.static y ∈ lw_all) (hY : aY y cc' maxL' ret' n9) (hn : As.length = n9) (h9 : rf' + 1 ≤ rf) (h8 : 8 + (maxL' + 11) + rl' ≤ rl) (hM : aM l D y cc' maxL' ret' rf' rl' As h res) (d : decode ⟨code⟩ pc = .ok (.invokestatic mi, 3)) :
    aD9 p l e R s m args below meth c D n0 s0 h res pc As.reverse [] As.toArray 3 := by
  intro H locs k' n ls h1 h2 h3 h5 h6 h7 T hT X
  have hV := X0.2.2.1
  have hVT : aVm D T := hV.moved X.warmed
  obtain ⟨k, tk, file, methk, ck, toy, t, ⟨r1, r2, r3, r4, r5⟩, -, ⟨u1, u2, u3, u4⟩, w1, w2, -⟩ := X0.2.2.2.2.2.2.2.2.2.2.2.2 T X.warmed
  obtain ⟨mt, sg, g1, g2, g3, g4, g5⟩ := lm_tgt hVT.1 hY u1 u2 u4
  have hstat : mt.isStatic = true := Cond.static_spec g1 g3 (hVT.1.use (args := #[]) (g_all hi))
  have hini : tk.init = .initialized := Cond.initialized_spec u1 u2 (hVT.1.use (args := #[]) (g_all hY.2.1))
  have hd : decode c.code pc = .ok (.invokestatic mi, 3) := by rw [X0.2.1]; exact d
  have hK := aK0 (p := p) (e := e) (below := below) (args := args) (len := 3) hV hY hM (Nat.le_trans h9 X0.2.2.2.2.1) (Nat.le_trans h8 X0.2.2.2.2.2.1)
  have hst0 : (F0 m pc ls As.reverse).stack = As.reverse ++ [] := by simp
  have hkr : T.vm.classes[t.cls]? = some tk := by rw [g2]; exact u2
  obtain ⟨b, hmem⟩ := memberRef_ask' (e := e) (vm := T.vm) (d := m.cls) (index := mi) r1 r3 (Or.inl r4) r5
  have hstep : ∀ target, Steps p.tables e below (doInvoke e (T.setTop { F0 m pc ls As.reverse with stack := [] }) [] t As.toArray).1 target → Steps p.tables e below (T.setTop (F0 m pc ls As.reverse)) target := by
    intro target hgo
    jvm_step X.here [X0.1, hd, invokestatic.wp_ready (e := e) (s := T) (m := t) (k := tk) (meth := mt) (args := As) (rest := []) (f := F0 m pc ls As.reverse) X.here.top ⟨ci, _, _, b, toy, tk, hmem, w2, u2, by simp [g4]⟩ w1 hkr g3 (g4 _) hstat hini (hn.trans g5.symm) hst0]
    intro acts
    rw [doInvoke_state]
    exact hgo
  rcases hK m meth c ⟨T, locs, k', n⟩ { F0 m pc ls As.reverse with stack := [] } (.invokestatic mi) t As.toArray X rfl h7 hd (by show 2 * 0 + 0 ≤ 8; decide) g1 (hStart X0 h1 h2 h5 h6 hT X.warmed) with ⟨v, B, X', hpost, steps⟩ | ⟨q, B, X', hpost, steps⟩
  · exact Or.inl ⟨v, T.vm, B, X.warmed, X', hpost, fun target ht => hstep target (steps.trans ht)⟩
  · exact Or.inr ⟨q, T.vm, B, X.warmed, X', hpost, hstep _ steps⟩
theorem hv_ret (X0 : hX p R s m meth c D n0 s0 ownL code rf rl hm rt fi types mi ci nt y h0) {x : Int32} {res : aRes} (hr : rt = .int ∨ (rt = .boolean ∧ (x = 0 ∨ x = 1))) (hres : res = (.inr (some (.int x)), h)) (d : decode ⟨code⟩ pc = .ok (.ireturn, 1)) (hs : s.heap.size ≤ s.heap.size) : V p l e R s m args below meth c D n0 s0 (aEnd D below args s h0 res) h pc lv [.int x] := by
  intro H locs k' n ls h1 h2 h3 h4 h5 h6 h7
  subst hres
  have hn0 := X0.2.2.2.2.2.2.2.2.2.1
  have hs0 := X0.2.2.2.2.2.2.2.2.2.2.1
  have hret := X0.2.2.2.2.2.2.2.2.2.2.2.1
  refine vx_ret ?_
  refine W.widen (k := h.1 - h0.1) (n := h.2.1 - h0.2.1) (by omega) (by omega) ?_
  refine W.zret X0.1 X0.2.1 hret ?_ (fun t ht hW => ⟨_, rfl, rfl, by rw [ht]; exact h1, by rw [ht]; exact h2, by rw [ht]; exact h3, by show h0.1 ≤ h.1; omega, by show h0.2.1 ≤ h.2.1; omega⟩) h4 d X0.2.2.2.1
  rcases hr with rfl | ⟨rfl, rfl | rfl⟩ <;> rfl
end HX
end ALP
