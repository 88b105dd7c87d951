/-! ===== the law's end ===== -/
set_option maxRecDepth 100000
section ALU
variable {p : Program} {l : Launch} {e : Env} {s : State} {m : MethodId} {below : List Frame} {meth : Method} {c : Code} {D : aD} {n0 s0 : Nat} {h : aH} {pc : Nat} {lv : aLv} {rf rl b : Nat}
theorem v_lret (L : lX p l s m meth c D n0 s0 rf rl) (d : decode code pc = .ok (.ireturn, 1)) : V p l e room_1 s m #[Value.ref b] below meth c D n0 s0 (lw_Z below #[Value.ref b] s) h pc lv [.int 1] := by
  intro H locs k' n ls h1 h2 h3 h4 h5 h6 h7
  obtain ⟨C, q1, q2, q3, q4, q5, q6⟩ := L
  have b1 := h1.2.1
  have b2 := h1.2.2.1
  refine W.widen (k := 1200144) (n := 5496250) (by omega) (by omega) ?_
  have := W.forget (locs := []) (L := locs) (fun z hz => by have := h4 z hz; unfold aA at this; omega) (lw_ret (p := p) (l := l) (e := e) (s := s) (m := m) (below := below) (meth := meth) (c := c) (b := b) C.1 C.2.1 q3 C.2.2.2.2.1 (pc := pc) (H := H) (ls := ls) d)
  simpa using this
theorem lX.step (L : lX p l s m meth c D n0 s0 rf rl) {D' : aD} {h' : aH} (hb : 1 ≤ n0) (hs : aStep D h D' h') (hn : s.heap.size ≤ n0 - 1 + 64) : lX p l s m meth c D' (n0 - 1) s0 rf rl := by
  obtain ⟨C, q1, q2, q3, q4, q5, q6⟩ := L
  obtain ⟨e1, e2, e3, -⟩ := hs
  refine ⟨C.other e1 e3 (by show D'.2.1 ≤ 1200144 + (n0 - 1); omega), by omega, by rw [e3]; exact q2, q3, q4, hn, ?_⟩
  have : b0 D' = b0 D := by unfold b0; rw [e3]
  rw [this]
  exact q6
end ALU
theorem lw_out {x : Int32} (h : x < 0 ∨ 55 < x) : x.toInt < 0 ∨ 55 < x.toInt := by
  rcases h with h | h
  · exact Or.inl (Int32.lt_iff_toInt_lt.mp h)
  · exact Or.inr (Int32.lt_iff_toInt_lt.mp h)
