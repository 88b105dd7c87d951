/-! ===== throwing ===== -/
set_option maxRecDepth 100000
def aThr (D : aD) (h : aH) : Option aH := if h.1 + 1 ≤ D.2.1 ∧ h.2.1 + 6 ≤ D.2.2.1 then some (h.1 + 1, h.2.1 + 6, h.2.2) else none
section ATH
variable {p : Program} {l : Launch} {e : Env} {R : Room} {s : State} {m : MethodId} {args : Array Value} {below : List Frame} {meth : Method} {c : Code} {D : aD} {n0 s0 : Nat} {Q : State → Prop}
variable {own : String} {cc : ByteArray} {rf rl nL : Nat} {h h' : aH} {pc : Nat} {lv : aLv} {st : List Value}

theorem v_throw (C : aC p l R s m meth c D n0 s0 own cc rf rl nL) {h0 : aH} {res : aRes} (hn0 : n0 = h0.1) (hs0 : s0 = h0.2.1) (hx : ∀ x ∈ c.exceptionTable.toList, False) {cls text : String} {ik is ic ek : Nat} (hq : (own, is, text) ∈ aTx) (hcls : Bundle.fit cls = true) (hk : Cond.classLink own ik cls ∈ lw_all) (hini : Cond.initialized cls ∈ lw_all) (hat : ∀ w ∈ vx_atS own ic cls aSup, w ∈ gl ∧ vx_ot w = true) (hek : aExn ek = cls) (hf : aThr D h = some h') (hres : res = (.inl ek, h')) (hrf : 6 ≤ rf) (hrl : (st.map fun v => v.category).sum + 82 ≤ rl)
    (d0 : decode cc pc = .ok (.new ik, 3)) (d3 : decode cc (pc + 3) = .ok (.dup, 1)) (d4 : decode cc (pc + 4) = .ok (.ldc is, 2)) (d6 : decode cc (pc + 6) = .ok (.invokespecial ic, 3)) (d9 : decode cc (pc + 9) = .ok (.athrow, 1)) : V p l e R s m args below meth c D n0 s0 (aEnd D below args s h0 res) h pc lv st := by
  intro H locs k n ls h1 h2 h3 h4 h5 h6 h7
  unfold aThr at hf
  split at hf
  case isFalse => cases hf
  rename_i hr
  cases hf
  subst hres
  subst hek
  obtain ⟨hT, -, -, -, ⟨hU, hN, hS, -⟩, -⟩ := C.2.2.2.1
  obtain ⟨sa, hsa⟩ := hS _ hq
  have hold := C.2.2.2.2.2.2.2.2.2.2.1
  have g1 := C.2.2.2.2.2.2.2.1
  have g2 := C.2.2.2.2.2.2.2.2.1
  have keep : ∀ a : Nat, a < D.2.2.2.1.size → ¬ aA D a → s.heap[a]? = D.2.2.2.1[a]? := fun a ha _ => hold.2 a ha
  have hva : va_S (aA D) s.heap H locs := ⟨h3, fun q hq1 hq2 => by
    have hq3 : q < b0 D := by unfold aA at hq2; omega
    rw [h2.2 q hq3, hold.2 q hq3], h4⟩
  have hfr := C.2.2.2.2.2.1
  have hlo := C.2.2.2.2.2.2.1
  refine vx_throwS (A := aA D) (text := text) (names := aSup) C.1 C.2.1 C.2.2.2.2.2.2.2.2.2.1 C.2.2.1 hcls (by decide +kernel) (hT.use (g_all hk)) (hT.use (g_all hini)) hsa (fun w hw => hT.use (hat w hw).1) (fun w hw => ?_) (hU.kept keep) (hN.kept keep) hva h7.1.1 d0 d3 d4 d6 d9 (fun x hx9 => (hx x hx9).elim) (show 2 + 3 < R.frames by omega) (show (st.map fun v => v.category).sum + (13 * (2 + 1) + 43) ≤ R.locals by omega) (by omega) (by omega) C.2.2.2.2.1 (fun t hA hz hq => ?_) h4 (by show k + 1 ≤ h.1 + 1 - h0.1; omega) (by show n + 6 ≤ h.2.1 + 6 - h0.2.1; omega)
  · rcases List.mem_cons.mp hw with rfl | hw
    · rfl
    · rcases List.mem_cons.mp hw with rfl | hw
      · rfl
      · exact (hat w hw).2
  · exact ⟨ek, rfl, rfl, ⟨hr.1, hr.2, fun a o ha => (h1.2.2.2 a o ha).kept (hq a (h1.2.2.2 a o ha).lt)⟩, ⟨Nat.le_trans h2.1 hz, fun q hq9 => (hq q (Nat.lt_of_lt_of_le hq9 h2.1)).trans (h2.2 q hq9)⟩, Nat.le_trans h3 hz, by show h0.1 ≤ h.1 + 1; omega, by show h0.2.1 ≤ h.2.1 + 6; omega, by show h.1 + 1 ≤ t.heap.size + 1; have := h1.1; omega⟩
end ATH
