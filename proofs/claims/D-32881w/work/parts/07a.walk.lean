/-! ===== printed: walks ===== -/
set_option maxRecDepth 100000
section SW070
variable {p : Program} {l : Launch} {e : Env} {R : Room} {s : State} {m : MethodId} {args : Array Value} {below : List Frame} {meth : Method} {c : Code} {D : aD} {n0 s0 : Nat} {h0 : aH}
def fJ0_init (D : aD) (h : aH) (a0 : Option Nat) : Option (Unit) :=
  (a0).bind fun _ =>
  some ()
theorem vJ0_init {h : aH} {a0 : Option Nat} {q : Unit} (X : aX p l R s m meth c D n0 s0 yJ0_init cJ0_init 1 12 1 (none) h0) (hf : fJ0_init D h a0 = some q) : V p l e R s m args below meth c D n0 s0 (aEnd D below args s h0 (.inr none, h)) h 0 [(0, false, va_rf a0)] [] := by
  have C := X.1
  unfold fJ0_init at hf
  refine v_aload_n (pc := 0) (j := 0) C dJ0_init_0 rfl rfl ?_
  obtain ⟨_, e1, hf⟩ := oB hf
  refine v_objInit (pc := 1) C e1 q151 q138 q139 (by decide) (Nat.le_trans (Nat.add_le_add_right aw_0 12) (by decide)) dJ0_init_1 ?_
  cases hf
  exact v_return (pc := 4) C X.2.1 X.2.2.1 X.2.2.2.1 rfl dJ0_init_4
theorem mJ0_init {l : Launch} {D : aD} {h : aH} {a0 : Option Nat} {q : Unit} (hst : l.stackTraces = false) (hf : fJ0_init D h a0 = some q) : aM l D yJ0_init cJ0_init 1 (none) 1 12 [va_rf a0] h (.inr none, h) :=
  aM.ofX [(false, va_rf a0)] rfl (ap_r ap_0) (by decide +kernel) hst (al_of (aw_r aw_0) (by decide)) fun p e s m args below meth c X => V.sub (lv' := [(0, false, va_rf a0)]) [0] rfl (vJ0_init X hf)
def fJ1_init (D : aD) (h : aH) (a0 : Option Nat) : Option (aH) :=
  (a0).bind fun _ =>
  (fJ0_init D h a0).bind fun _ =>
  (pF D h 15 0 a0 (.int (0 : Int32))).bind fun h4 =>
  some h4
theorem vJ1_init {h : aH} {a0 : Option Nat} {g : aH} (X : aX p l R s m meth c D n0 s0 yJ1_init cJ1_init 2 32 1 (none) h0) (hf : fJ1_init D h a0 = some g) : V p l e R s m args below meth c D n0 s0 (aEnd D below args s h0 (.inr none, g)) h 0 [(0, false, va_rf a0)] [] := by
  have C := X.1
  unfold fJ1_init at hf
  refine v_aload_n (pc := 0) (j := 0) C dJ1_init_0 rfl rfl ?_
  obtain ⟨_, eb1, hf⟩ := oB hf
  obtain ⟨x2, ex2, hf⟩ := oB hf
  refine v_callU (pc := 1) (d_I (pc := 1) C (As := []) (rest := []) eb1 rfl rfl q148 q149 yk_J0_init rfl (by decide) (by decide) (Nat.le_trans aw_0 (by decide)) rfl (mJ0_init C.st ex2) dJ1_init_1) ?_
  refine v_aload_n (pc := 4) (j := 0) C dJ1_init_4 rfl rfl ?_
  refine v_iconst (pc := 5) (v := (0 : Int32)) C dJ1_init_5 rfl ?_
  obtain ⟨h4, eh4, hf⟩ := oB hf
  refine v_putF (pc := 6) C lk_J1_7 tyJ2 tyJ2_ok nmJ2 (tyJ2_ok 0 (by decide)) rfl rfl eh4 dJ1_init_6 ?_
  cases hf
  exact v_return (pc := 9) C X.2.1 X.2.2.1 X.2.2.2.1 rfl dJ1_init_9
theorem mJ1_init {l : Launch} {D : aD} {h : aH} {a0 : Option Nat} {g : aH} (hst : l.stackTraces = false) (hf : fJ1_init D h a0 = some g) : aM l D yJ1_init cJ1_init 1 (none) 2 32 [va_rf a0] h (.inr none, g) :=
  aM.ofX [(false, va_rf a0)] rfl (ap_r ap_0) (by decide +kernel) hst (al_of (aw_r aw_0) (by decide)) fun p e s m args below meth c X => V.sub (lv' := [(0, false, va_rf a0)]) [0] rfl (vJ1_init X hf)
def fJ2_init (D : aD) (h : aH) (a0 : Option Nat) : Option (aH) :=
  (a0).bind fun _ =>
  (fJ1_init D h a0).bind fun h3 =>
  (asR (D.2.2.2.2 0)).bind fun x4 =>
  (pF D h3 15 1 a0 (va_rf x4)).bind fun h5 =>
  some h5
theorem vJ2_init {h : aH} {a0 : Option Nat} {g : aH} (X : aX p l R s m meth c D n0 s0 yJ2_init cJ2_init 3 52 1 (none) h0) (hf : fJ2_init D h a0 = some g) : V p l e R s m args below meth c D n0 s0 (aEnd D below args s h0 (.inr none, g)) h 0 [(0, false, va_rf a0)] [] := by
  have C := X.1
  unfold fJ2_init at hf
  refine v_aload_n (pc := 0) (j := 0) C dJ2_init_0 rfl rfl ?_
  obtain ⟨_, eb1, hf⟩ := oB hf
  obtain ⟨h3, ex2, hf⟩ := oB hf
  refine v_callU (pc := 1) (d_I (pc := 1) C (As := []) (rest := []) eb1 rfl rfl q145 q146 yk_J1_init rfl (by decide) (by decide) (Nat.le_trans aw_0 (by decide)) rfl (mJ1_init C.st ex2) dJ2_init_1) ?_
  refine v_aload_n (pc := 4) (j := 0) C dJ2_init_4 rfl rfl ?_
  obtain ⟨x4, ex4, hf⟩ := oB hf
  refine v_statR (pc := 5) (k9 := 0) C rfl q152 ex4 dJ2_init_5 ?_
  obtain ⟨h5, eh5, hf⟩ := oB hf
  refine v_putF (pc := 8) C lk_J2_9 tyJ2 tyJ2_ok nmJ2 (tyJ2_ok 1 (by decide)) rfl ft_a eh5 dJ2_init_8 ?_
  cases hf
  exact v_return (pc := 11) C X.2.1 X.2.2.1 X.2.2.2.1 rfl dJ2_init_11
theorem mJ2_init {l : Launch} {D : aD} {h : aH} {a0 : Option Nat} {g : aH} (hst : l.stackTraces = false) (hf : fJ2_init D h a0 = some g) : aM l D yJ2_init cJ2_init 1 (none) 3 52 [va_rf a0] h (.inr none, g) :=
  aM.ofX [(false, va_rf a0)] rfl (ap_r ap_0) (by decide +kernel) hst (al_of (aw_r aw_0) (by decide)) fun p e s m args below meth c X => V.sub (lv' := [(0, false, va_rf a0)]) [0] rfl (vJ2_init X hf)
def fX2_init (D : aD) (h : aH) (a0 : Option Nat) : Option (aH) :=
  (a0).bind fun _ =>
  (pF D h 1 2 a0 (.int (-1 : Int32))).bind fun h2 =>
  (aMk D h2 (15, dfJ2)).bind fun h3 =>
  (fJ2_init D h3 (some h2.1)).bind fun h6 =>
  (pF D h6 1 4 a0 (va_rf (some h2.1))).bind fun h7 =>
  (aMk D h7 (15, dfJ2)).bind fun h8 =>
  (fJ2_init D h8 (some h7.1)).bind fun h11 =>
  (pF D h11 1 5 a0 (va_rf (some h7.1))).bind fun h12 =>
  (aMkA D h12 101 (6 : Int32) (.long 0)).bind fun h13 =>
  (pF D h13 1 6 a0 (va_rf (some h12.1))).bind fun h14 =>
  (aMk D h14 (15, dfJ2)).bind fun h15 =>
  (fJ2_init D h15 (some h14.1)).bind fun h18 =>
  (pF D h18 1 7 a0 (va_rf (some h14.1))).bind fun h19 =>
  (aMkA D h19 101 (60 : Int32) (.long 0)).bind fun h20 =>
  (pF D h20 1 8 a0 (va_rf (some h19.1))).bind fun h21 =>
  (aMk D h21 (15, dfJ2)).bind fun h22 =>
  (fJ2_init D h22 (some h21.1)).bind fun h25 =>
  (pF D h25 1 9 a0 (va_rf (some h21.1))).bind fun h26 =>
  (aMk2 D h26 105 102 (24 : Int32) (60 : Int32) (.int 0)).bind fun h27 =>
  (pF D h27 1 10 a0 (va_rf (some h26.1))).bind fun h28 =>
  (aMk D h28 (15, dfJ2)).bind fun h29 =>
  (fJ2_init D h29 (some h28.1)).bind fun h32 =>
  (pF D h32 1 11 a0 (va_rf (some h28.1))).bind fun h33 =>
  (aMkA D h33 101 (40 : Int32) (.long 0)).bind fun h34 =>
  (pF D h34 1 12 a0 (va_rf (some h33.1))).bind fun h35 =>
  (aMk D h35 (15, dfJ2)).bind fun h36 =>
  (fJ2_init D h36 (some h35.1)).bind fun h39 =>
  (pF D h39 1 13 a0 (va_rf (some h35.1))).bind fun h40 =>
  (aMkA D h40 100 (5 : Int32) (.int 0)).bind fun h41 =>
  (pF D h41 1 14 a0 (va_rf (some h40.1))).bind fun h42 =>
  (aMkA D h42 100 (5 : Int32) (.int 0)).bind fun h43 =>
  (sF D h43 100 (some h42.1) (0 : Int32) (.int (30000 : Int32))).bind fun h44 =>
  (sF D h44 100 (some h42.1) (1 : Int32) (.int (30000 : Int32))).bind fun h45 =>
  (sF D h45 100 (some h42.1) (2 : Int32) (.int (30000 : Int32))).bind fun h46 =>
  (sF D h46 100 (some h42.1) (3 : Int32) (.int (30000 : Int32))).bind fun h47 =>
  (sF D h47 100 (some h42.1) (4 : Int32) (.int (30000 : Int32))).bind fun h48 =>
  (pF D h48 1 15 a0 (va_rf (some h42.1))).bind fun h49 =>
  (aMk D h49 (15, dfJ2)).bind fun h50 =>
  (fJ2_init D h50 (some h49.1)).bind fun h53 =>
  (pF D h53 1 16 a0 (va_rf (some h49.1))).bind fun h54 =>
  (aMk D h54 (15, dfJ2)).bind fun h55 =>
  (fJ2_init D h55 (some h54.1)).bind fun h58 =>
  (pF D h58 1 17 a0 (va_rf (some h54.1))).bind fun h59 =>
  (aMk D h59 (15, dfJ2)).bind fun h60 =>
  (fJ2_init D h60 (some h59.1)).bind fun h63 =>
  (pF D h63 1 18 a0 (va_rf (some h59.1))).bind fun h64 =>
  (aMk D h64 (15, dfJ2)).bind fun h65 =>
  (fJ2_init D h65 (some h64.1)).bind fun h68 =>
  (pF D h68 1 19 a0 (va_rf (some h64.1))).bind fun h69 =>
  some h69
theorem vX2_init {h : aH} {a0 : Option Nat} {g : aH} (X : aX p l R s m meth c D n0 s0 yX2_init cX2_init 4 72 1 (none) h0) (hf : fX2_init D h a0 = some g) : V p l e R s m args below meth c D n0 s0 (aEnd D below args s h0 (.inr none, g)) h 0 [(0, false, va_rf a0)] [] := by
  have C := X.1
  unfold fX2_init at hf
  refine v_aload_n (pc := 0) (j := 0) C dX2_init_0 rfl rfl ?_
  obtain ⟨_, e1, hf⟩ := oB hf
  refine v_objInit (pc := 1) C e1 q2417 q138 q139 (by decide) (Nat.le_trans (Nat.add_le_add_right aw_0 12) (by decide)) dX2_init_1 ?_
  refine v_aload_n (pc := 4) (j := 0) C dX2_init_4 rfl rfl ?_
  refine v_iconst (pc := 5) (v := (-1 : Int32)) C dX2_init_5 rfl ?_
  obtain ⟨h2, eh2, hf⟩ := oB hf
  refine v_putF (pc := 6) C lk_X2_9 tyX2 tyX2_ok nmX2 (tyX2_ok 2 (by decide)) rfl rfl eh2 dX2_init_6 ?_
  refine v_aload_n (pc := 9) (j := 0) C dX2_init_9 rfl rfl ?_
  obtain ⟨h3, eh3, hf⟩ := oB hf
  refine v_new (pc := 10) (t := 15) (fs := dfJ2) (T := TJ2) (N := 3) C rfl in_J2 tyJ2 tyJ2_ok q2418 q141 q77 dfJ2_ok rfl eh3 dX2_init_10 ?_
  refine v_dup (pc := 13) C dX2_init_13 (va_rfc _) ?_
  obtain ⟨h6, ex5, hf⟩ := oB hf
  refine v_callU (pc := 14) (d_I (pc := 14) C (As := []) (rest := [va_rf (some h2.1), va_rf a0]) rfl rfl rfl q2419 q143 yk_J2_init rfl (by decide) (by decide) (Nat.le_trans (aw_r (aw_r aw_0)) (by decide)) rfl (mJ2_init C.st ex5) dX2_init_14) ?_
  obtain ⟨h7, eh7, hf⟩ := oB hf
  refine v_putC (pc := 17) C X.2.2.2.2.2.1 lk_X2_16 rfl q2425 tyX2 tyX2_ok nmX2 (tyX2_ok 4 (by decide)) rfl ft_o eh7 dX2_init_17 ?_
  refine v_aload_n (pc := 20) (j := 0) C dX2_init_20 rfl rfl ?_
  obtain ⟨h8, eh8, hf⟩ := oB hf
  refine v_new (pc := 21) (t := 15) (fs := dfJ2) (T := TJ2) (N := 3) C rfl in_J2 tyJ2 tyJ2_ok q2418 q141 q77 dfJ2_ok rfl eh8 dX2_init_21 ?_
  refine v_dup (pc := 24) C dX2_init_24 (va_rfc _) ?_
  obtain ⟨h11, ex10, hf⟩ := oB hf
  refine v_callU (pc := 25) (d_I (pc := 25) C (As := []) (rest := [va_rf (some h7.1), va_rf a0]) rfl rfl rfl q2419 q143 yk_J2_init rfl (by decide) (by decide) (Nat.le_trans (aw_r (aw_r aw_0)) (by decide)) rfl (mJ2_init C.st ex10) dX2_init_25) ?_
  obtain ⟨h12, eh12, hf⟩ := oB hf
  refine v_putC (pc := 28) C X.2.2.2.2.2.1 lk_X2_20 rfl q2426 tyX2 tyX2_ok nmX2 (tyX2_ok 5 (by decide)) rfl ft_o eh12 dX2_init_28 ?_
  refine v_aload_n (pc := 31) (j := 0) C dX2_init_31 rfl rfl ?_
  refine v_bipush (pc := 32) (v := (6 : Int32)) C dX2_init_32 rfl ?_
  obtain ⟨h13, eh13, hf⟩ := oB hf
  refine v_newarray (pc := 34) (t := 101) (v := .long 0) C q2486 rfl rfl (by decide) (by decide) rfl eh13 dX2_init_34 ?_
  obtain ⟨h14, eh14, hf⟩ := oB hf
  refine v_putC (pc := 36) C X.2.2.2.2.2.1 lk_X2_23 rfl q2427 tyX2 tyX2_ok nmX2 (tyX2_ok 6 (by decide)) rfl ft_a eh14 dX2_init_36 ?_
  refine v_aload_n (pc := 39) (j := 0) C dX2_init_39 rfl rfl ?_
  obtain ⟨h15, eh15, hf⟩ := oB hf
  refine v_new (pc := 40) (t := 15) (fs := dfJ2) (T := TJ2) (N := 3) C rfl in_J2 tyJ2 tyJ2_ok q2418 q141 q77 dfJ2_ok rfl eh15 dX2_init_40 ?_
  refine v_dup (pc := 43) C dX2_init_43 (va_rfc _) ?_
  obtain ⟨h18, ex17, hf⟩ := oB hf
  refine v_callU (pc := 44) (d_I (pc := 44) C (As := []) (rest := [va_rf (some h14.1), va_rf a0]) rfl rfl rfl q2419 q143 yk_J2_init rfl (by decide) (by decide) (Nat.le_trans (aw_r (aw_r aw_0)) (by decide)) rfl (mJ2_init C.st ex17) dX2_init_44) ?_
  obtain ⟨h19, eh19, hf⟩ := oB hf
  refine v_putC (pc := 47) C X.2.2.2.2.2.1 lk_X2_27 rfl q2428 tyX2 tyX2_ok nmX2 (tyX2_ok 7 (by decide)) rfl ft_o eh19 dX2_init_47 ?_
  refine v_aload_n (pc := 50) (j := 0) C dX2_init_50 rfl rfl ?_
  refine v_bipush (pc := 51) (v := (60 : Int32)) C dX2_init_51 rfl ?_
  obtain ⟨h20, eh20, hf⟩ := oB hf
  refine v_newarray (pc := 53) (t := 101) (v := .long 0) C q2486 rfl rfl (by decide) (by decide) rfl eh20 dX2_init_53 ?_
  obtain ⟨h21, eh21, hf⟩ := oB hf
  refine v_putC (pc := 55) C X.2.2.2.2.2.1 lk_X2_30 rfl q2429 tyX2 tyX2_ok nmX2 (tyX2_ok 8 (by decide)) rfl ft_a eh21 dX2_init_55 ?_
  refine v_aload_n (pc := 58) (j := 0) C dX2_init_58 rfl rfl ?_
  obtain ⟨h22, eh22, hf⟩ := oB hf
  refine v_new (pc := 59) (t := 15) (fs := dfJ2) (T := TJ2) (N := 3) C rfl in_J2 tyJ2 tyJ2_ok q2418 q141 q77 dfJ2_ok rfl eh22 dX2_init_59 ?_
  refine v_dup (pc := 62) C dX2_init_62 (va_rfc _) ?_
  obtain ⟨h25, ex24, hf⟩ := oB hf
  refine v_callU (pc := 63) (d_I (pc := 63) C (As := []) (rest := [va_rf (some h21.1), va_rf a0]) rfl rfl rfl q2419 q143 yk_J2_init rfl (by decide) (by decide) (Nat.le_trans (aw_r (aw_r aw_0)) (by decide)) rfl (mJ2_init C.st ex24) dX2_init_63) ?_
  obtain ⟨h26, eh26, hf⟩ := oB hf
  refine v_putC (pc := 66) C X.2.2.2.2.2.1 lk_X2_33 rfl q2431 tyX2 tyX2_ok nmX2 (tyX2_ok 9 (by decide)) rfl ft_o eh26 dX2_init_66 ?_
  refine v_aload_n (pc := 69) (j := 0) C dX2_init_69 rfl rfl ?_
  refine v_bipush (pc := 70) (v := (24 : Int32)) C dX2_init_70 rfl ?_
  refine v_bipush (pc := 72) (v := (60 : Int32)) C dX2_init_72 rfl ?_
  obtain ⟨h27, eh27, hf⟩ := oB hf
  refine v_multi (pc := 74) (t := 105) (t' := 102) (t9 := .boolean) (v := .int 0) C (by decide +kernel) (by decide +kernel) rfl (by decide) rfl (by decide) q2420 q1258 q1321 (by decide) rfl rfl rfl eh27 dX2_init_74 ?_
  obtain ⟨h28, eh28, hf⟩ := oB hf
  refine v_putC (pc := 78) C X.2.2.2.2.2.1 lk_X2_38 rfl q2432 tyX2 tyX2_ok nmX2 (tyX2_ok 10 (by decide)) rfl ft_a eh28 dX2_init_78 ?_
  refine v_aload_n (pc := 81) (j := 0) C dX2_init_81 rfl rfl ?_
  obtain ⟨h29, eh29, hf⟩ := oB hf
  refine v_new (pc := 82) (t := 15) (fs := dfJ2) (T := TJ2) (N := 3) C rfl in_J2 tyJ2 tyJ2_ok q2418 q141 q77 dfJ2_ok rfl eh29 dX2_init_82 ?_
  refine v_dup (pc := 85) C dX2_init_85 (va_rfc _) ?_
  obtain ⟨h32, ex31, hf⟩ := oB hf
  refine v_callU (pc := 86) (d_I (pc := 86) C (As := []) (rest := [va_rf (some h28.1), va_rf a0]) rfl rfl rfl q2419 q143 yk_J2_init rfl (by decide) (by decide) (Nat.le_trans (aw_r (aw_r aw_0)) (by decide)) rfl (mJ2_init C.st ex31) dX2_init_86) ?_
  obtain ⟨h33, eh33, hf⟩ := oB hf
  refine v_putC (pc := 89) C X.2.2.2.2.2.1 lk_X2_41 rfl q2433 tyX2 tyX2_ok nmX2 (tyX2_ok 11 (by decide)) rfl ft_o eh33 dX2_init_89 ?_
  refine v_aload_n (pc := 92) (j := 0) C dX2_init_92 rfl rfl ?_
  refine v_bipush (pc := 93) (v := (40 : Int32)) C dX2_init_93 rfl ?_
  obtain ⟨h34, eh34, hf⟩ := oB hf
  refine v_newarray (pc := 95) (t := 101) (v := .long 0) C q2486 rfl rfl (by decide) (by decide) rfl eh34 dX2_init_95 ?_
  obtain ⟨h35, eh35, hf⟩ := oB hf
  refine v_putC (pc := 97) C X.2.2.2.2.2.1 lk_X2_44 rfl q2434 tyX2 tyX2_ok nmX2 (tyX2_ok 12 (by decide)) rfl ft_a eh35 dX2_init_97 ?_
  refine v_aload_n (pc := 100) (j := 0) C dX2_init_100 rfl rfl ?_
  obtain ⟨h36, eh36, hf⟩ := oB hf
  refine v_new (pc := 101) (t := 15) (fs := dfJ2) (T := TJ2) (N := 3) C rfl in_J2 tyJ2 tyJ2_ok q2418 q141 q77 dfJ2_ok rfl eh36 dX2_init_101 ?_
  refine v_dup (pc := 104) C dX2_init_104 (va_rfc _) ?_
  obtain ⟨h39, ex38, hf⟩ := oB hf
  refine v_callU (pc := 105) (d_I (pc := 105) C (As := []) (rest := [va_rf (some h35.1), va_rf a0]) rfl rfl rfl q2419 q143 yk_J2_init rfl (by decide) (by decide) (Nat.le_trans (aw_r (aw_r aw_0)) (by decide)) rfl (mJ2_init C.st ex38) dX2_init_105) ?_
  obtain ⟨h40, eh40, hf⟩ := oB hf
  refine v_putC (pc := 108) C X.2.2.2.2.2.1 lk_X2_47 rfl q2436 tyX2 tyX2_ok nmX2 (tyX2_ok 13 (by decide)) rfl ft_o eh40 dX2_init_108 ?_
  refine v_aload_n (pc := 111) (j := 0) C dX2_init_111 rfl rfl ?_
  refine v_iconst (pc := 112) (v := (5 : Int32)) C dX2_init_112 rfl ?_
  obtain ⟨h41, eh41, hf⟩ := oB hf
  refine v_newarray (pc := 113) (t := 100) (v := .int 0) C q169 rfl rfl (by decide) (by decide) rfl eh41 dX2_init_113 ?_
  obtain ⟨h42, eh42, hf⟩ := oB hf
  refine v_putC (pc := 115) C X.2.2.2.2.2.1 lk_X2_50 rfl q2437 tyX2 tyX2_ok nmX2 (tyX2_ok 14 (by decide)) rfl ft_a eh42 dX2_init_115 ?_
  refine v_aload_n (pc := 118) (j := 0) C dX2_init_118 rfl rfl ?_
  refine v_iconst (pc := 119) (v := (5 : Int32)) C dX2_init_119 rfl ?_
  obtain ⟨h43, eh43, hf⟩ := oB hf
  refine v_newarray (pc := 120) (t := 100) (v := .int 0) C q169 rfl rfl (by decide) (by decide) rfl eh43 dX2_init_120 ?_
  refine v_dup (pc := 122) C dX2_init_122 (va_rfc _) ?_
  refine v_iconst (pc := 123) (v := (0 : Int32)) C dX2_init_123 rfl ?_
  refine v_sipush (pc := 124) (v := (30000 : Int32)) C dX2_init_124 rfl ?_
  obtain ⟨h44, eh44, hf⟩ := oB hf
  refine v_iastore (pc := 127) C eh44 dX2_init_127 ?_
  refine v_dup (pc := 128) C dX2_init_128 (va_rfc _) ?_
  refine v_iconst (pc := 129) (v := (1 : Int32)) C dX2_init_129 rfl ?_
  refine v_sipush (pc := 130) (v := (30000 : Int32)) C dX2_init_130 rfl ?_
  obtain ⟨h45, eh45, hf⟩ := oB hf
  refine v_iastore (pc := 133) C eh45 dX2_init_133 ?_
  refine v_dup (pc := 134) C dX2_init_134 (va_rfc _) ?_
  refine v_iconst (pc := 135) (v := (2 : Int32)) C dX2_init_135 rfl ?_
  refine v_sipush (pc := 136) (v := (30000 : Int32)) C dX2_init_136 rfl ?_
  obtain ⟨h46, eh46, hf⟩ := oB hf
  refine v_iastore (pc := 139) C eh46 dX2_init_139 ?_
  refine v_dup (pc := 140) C dX2_init_140 (va_rfc _) ?_
  refine v_iconst (pc := 141) (v := (3 : Int32)) C dX2_init_141 rfl ?_
  refine v_sipush (pc := 142) (v := (30000 : Int32)) C dX2_init_142 rfl ?_
  obtain ⟨h47, eh47, hf⟩ := oB hf
  refine v_iastore (pc := 145) C eh47 dX2_init_145 ?_
  refine v_dup (pc := 146) C dX2_init_146 (va_rfc _) ?_
  refine v_iconst (pc := 147) (v := (4 : Int32)) C dX2_init_147 rfl ?_
  refine v_sipush (pc := 148) (v := (30000 : Int32)) C dX2_init_148 rfl ?_
  obtain ⟨h48, eh48, hf⟩ := oB hf
  refine v_iastore (pc := 151) C eh48 dX2_init_151 ?_
  obtain ⟨h49, eh49, hf⟩ := oB hf
  refine v_putC (pc := 152) C X.2.2.2.2.2.1 lk_X2_54 rfl q2439 tyX2 tyX2_ok nmX2 (tyX2_ok 15 (by decide)) rfl ft_a eh49 dX2_init_152 ?_
  refine v_aload_n (pc := 155) (j := 0) C dX2_init_155 rfl rfl ?_
  obtain ⟨h50, eh50, hf⟩ := oB hf
  refine v_new (pc := 156) (t := 15) (fs := dfJ2) (T := TJ2) (N := 3) C rfl in_J2 tyJ2 tyJ2_ok q2418 q141 q77 dfJ2_ok rfl eh50 dX2_init_156 ?_
  refine v_dup (pc := 159) C dX2_init_159 (va_rfc _) ?_
  obtain ⟨h53, ex52, hf⟩ := oB hf
  refine v_callU (pc := 160) (d_I (pc := 160) C (As := []) (rest := [va_rf (some h49.1), va_rf a0]) rfl rfl rfl q2419 q143 yk_J2_init rfl (by decide) (by decide) (Nat.le_trans (aw_r (aw_r aw_0)) (by decide)) rfl (mJ2_init C.st ex52) dX2_init_160) ?_
  obtain ⟨h54, eh54, hf⟩ := oB hf
  refine v_putC (pc := 163) C X.2.2.2.2.2.1 lk_X2_57 rfl q2441 tyX2 tyX2_ok nmX2 (tyX2_ok 16 (by decide)) rfl ft_o eh54 dX2_init_163 ?_
  refine v_aload_n (pc := 166) (j := 0) C dX2_init_166 rfl rfl ?_
  obtain ⟨h55, eh55, hf⟩ := oB hf
  refine v_new (pc := 167) (t := 15) (fs := dfJ2) (T := TJ2) (N := 3) C rfl in_J2 tyJ2 tyJ2_ok q2418 q141 q77 dfJ2_ok rfl eh55 dX2_init_167 ?_
  refine v_dup (pc := 170) C dX2_init_170 (va_rfc _) ?_
  obtain ⟨h58, ex57, hf⟩ := oB hf
  refine v_callU (pc := 171) (d_I (pc := 171) C (As := []) (rest := [va_rf (some h54.1), va_rf a0]) rfl rfl rfl q2419 q143 yk_J2_init rfl (by decide) (by decide) (Nat.le_trans (aw_r (aw_r aw_0)) (by decide)) rfl (mJ2_init C.st ex57) dX2_init_171) ?_
  obtain ⟨h59, eh59, hf⟩ := oB hf
  refine v_putC (pc := 174) C X.2.2.2.2.2.1 lk_X2_60 rfl q2442 tyX2 tyX2_ok nmX2 (tyX2_ok 17 (by decide)) rfl ft_o eh59 dX2_init_174 ?_
  refine v_aload_n (pc := 177) (j := 0) C dX2_init_177 rfl rfl ?_
  obtain ⟨h60, eh60, hf⟩ := oB hf
  refine v_new (pc := 178) (t := 15) (fs := dfJ2) (T := TJ2) (N := 3) C rfl in_J2 tyJ2 tyJ2_ok q2418 q141 q77 dfJ2_ok rfl eh60 dX2_init_178 ?_
  refine v_dup (pc := 181) C dX2_init_181 (va_rfc _) ?_
  obtain ⟨h63, ex62, hf⟩ := oB hf
  refine v_callU (pc := 182) (d_I (pc := 182) C (As := []) (rest := [va_rf (some h59.1), va_rf a0]) rfl rfl rfl q2419 q143 yk_J2_init rfl (by decide) (by decide) (Nat.le_trans (aw_r (aw_r aw_0)) (by decide)) rfl (mJ2_init C.st ex62) dX2_init_182) ?_
  obtain ⟨h64, eh64, hf⟩ := oB hf
  refine v_putC (pc := 185) C X.2.2.2.2.2.1 lk_X2_63 rfl q2443 tyX2 tyX2_ok nmX2 (tyX2_ok 18 (by decide)) rfl ft_o eh64 dX2_init_185 ?_
  refine v_aload_n (pc := 188) (j := 0) C dX2_init_188 rfl rfl ?_
  obtain ⟨h65, eh65, hf⟩ := oB hf
  refine v_new (pc := 189) (t := 15) (fs := dfJ2) (T := TJ2) (N := 3) C rfl in_J2 tyJ2 tyJ2_ok q2418 q141 q77 dfJ2_ok rfl eh65 dX2_init_189 ?_
  refine v_dup (pc := 192) C dX2_init_192 (va_rfc _) ?_
  obtain ⟨h68, ex67, hf⟩ := oB hf
  refine v_callU (pc := 193) (d_I (pc := 193) C (As := []) (rest := [va_rf (some h64.1), va_rf a0]) rfl rfl rfl q2419 q143 yk_J2_init rfl (by decide) (by decide) (Nat.le_trans (aw_r (aw_r aw_0)) (by decide)) rfl (mJ2_init C.st ex67) dX2_init_193) ?_
  obtain ⟨h69, eh69, hf⟩ := oB hf
  refine v_putC (pc := 196) C X.2.2.2.2.2.1 lk_X2_66 rfl q2444 tyX2 tyX2_ok nmX2 (tyX2_ok 19 (by decide)) rfl ft_o eh69 dX2_init_196 ?_
  cases hf
  exact v_return (pc := 199) C X.2.1 X.2.2.1 X.2.2.2.1 rfl dX2_init_199
theorem mX2_init {l : Launch} {D : aD} {h : aH} {a0 : Option Nat} {g : aH} (hst : l.stackTraces = false) (hf : fX2_init D h a0 = some g) : aM l D yX2_init cX2_init 1 (none) 4 72 [va_rf a0] h (.inr none, g) :=
  aM.ofX [(false, va_rf a0)] rfl (ap_r ap_0) (by decide +kernel) hst (al_of (aw_r aw_0) (by decide)) fun p e s m args below meth c X => V.sub (lv' := [(0, false, va_rf a0)]) [0] rfl (vX2_init X hf)
def fX2_thrown (D : aD) (h : aH) (a0 : Option Nat) : Option (Int32) :=
  (gI h 1 0 a0).bind fun x1 =>
  some x1
theorem vX2_thrown {h : aH} {a0 : Option Nat} {q : Int32} (X : aX p l R s m meth c D n0 s0 yX2_thrown cX2_thrown 0 0 1 (some .int) h0) (hf : fX2_thrown D h a0 = some q) : V p l e R s m args below meth c D n0 s0 (aEnd D below args s h0 (.inr (some (.int q)), h)) h 0 [(0, false, va_rf a0)] [] := by
  have C := X.1
  unfold fX2_thrown at hf
  refine v_aload_n (pc := 0) (j := 0) C dX2_thrown_0 rfl rfl ?_
  obtain ⟨x1, ex1, hf⟩ := oB hf
  refine v_getF (pc := 1) C lk_X2_69 (gI_eq ex1) dX2_thrown_1 ?_
  cases hf
  exact v_ireturn (pc := 4) C X.2.1 X.2.2.1 X.2.2.2.1 rfl dX2_thrown_4
theorem mX2_thrown {l : Launch} {D : aD} {h : aH} {a0 : Option Nat} {q : Int32} (hst : l.stackTraces = false) (hf : fX2_thrown D h a0 = some q) : aM l D yX2_thrown cX2_thrown 1 (some .int) 0 0 [va_rf a0] h (.inr (some (.int q)), h) :=
  aM.ofX [(false, va_rf a0)] rfl (ap_r ap_0) (by decide +kernel) hst (al_of (aw_r aw_0) (by decide)) fun p e s m args below meth c X => V.sub (lv' := [(0, false, va_rf a0)]) [0] rfl (vX2_thrown X hf)
def fX2_in (D : aD) (h : aH) (a0 : Int32) (a1 : Int32) (a2 : Int32) : Option (Int32) :=
  if a0 < a1 then
  (some (0 : Int32))
  else
  (if a2 < a0 then
  (some (0 : Int32))
  else
  (some (1 : Int32)))
theorem vX2_in {h : aH} {a0 : Int32} {a1 : Int32} {a2 : Int32} {q : Int32} (X : aX p l R s m meth c D n0 s0 yX2_in cX2_in 0 0 3 (some .boolean) h0) (hf : fX2_in D h a0 a1 a2 = some q) : V p l e R s m args below meth c D n0 s0 (aEnd D below args s h0 (.inr (some (.int q)), h)) h 0 [(0, false, .int a0), (1, false, .int a1), (2, false, .int a2)] [] := by
  have C := X.1
  unfold fX2_in at hf
  refine v_iload_n (pc := 0) (j := 0) C dX2_in_0 rfl rfl ?_
  refine v_iload_n (pc := 1) (j := 1) C dX2_in_1 rfl rfl ?_
  refine v_icmp_lt (pc := 2) (tgt := 14) C dX2_in_2 rfl (fun hc => ?_) (fun hc => ?_)
  · rw [if_pos hc] at hf
    refine v_iconst (pc := 14) (v := (0 : Int32)) C dX2_in_14 rfl ?_
    cases hf
    exact v_zreturn (pc := 15) C X.2.1 X.2.2.1 X.2.2.2.1 (by decide) rfl dX2_in_15
  · rw [if_neg hc] at hf
    refine v_iload_n (pc := 5) (j := 0) C dX2_in_5 rfl rfl ?_
    refine v_iload_n (pc := 6) (j := 2) C dX2_in_6 rfl rfl ?_
    refine v_icmp_gt (pc := 7) (tgt := 14) C dX2_in_7 rfl (fun hc => ?_) (fun hc => ?_)
    · rw [if_pos hc] at hf
      refine v_iconst (pc := 14) (v := (0 : Int32)) C dX2_in_14 rfl ?_
      cases hf
      exact v_zreturn (pc := 15) C X.2.1 X.2.2.1 X.2.2.2.1 (by decide) rfl dX2_in_15
    · rw [if_neg hc] at hf
      refine v_iconst (pc := 10) (v := (1 : Int32)) C dX2_in_10 rfl ?_
      refine v_goto (pc := 11) (tgt := 15) C dX2_in_11 rfl ?_
      cases hf
      exact v_zreturn (pc := 15) C X.2.1 X.2.2.1 X.2.2.2.1 (by decide) rfl dX2_in_15
theorem mX2_in {l : Launch} {D : aD} {h : aH} {a0 : Int32} {a1 : Int32} {a2 : Int32} {q : Int32} (hst : l.stackTraces = false) (hf : fX2_in D h a0 a1 a2 = some q) : aM l D yX2_in cX2_in 3 (some .boolean) 0 0 [.int a0, .int a1, .int a2] h (.inr (some (.int q)), h) :=
  aM.ofX [(false, .int a0), (false, .int a1), (false, .int a2)] rfl (ap_c rfl (ap_c rfl (ap_c rfl ap_0))) (by decide +kernel) hst (al_of (aw_i (aw_i (aw_i aw_0))) (by decide)) fun p e s m args below meth c X => V.sub (lv' := [(0, false, .int a0), (1, false, .int a1), (2, false, .int a2)]) [0, 1, 2] rfl (vX2_in X hf)
def fX2_err (D : aD) (h : aH) (a0 : Option Nat) (a1 : Int32) : Option (Int32 × aH) :=
  (pF D h 1 0 a0 (.int a1)).bind fun h1 =>
  some ((0 : Int32), h1)
theorem vX2_err {h : aH} {a0 : Option Nat} {a1 : Int32} {q : Int32} {g : aH} (X : aX p l R s m meth c D n0 s0 yX2_err cX2_err 0 0 2 (some .int) h0) (hf : fX2_err D h a0 a1 = some (q, g)) : V p l e R s m args below meth c D n0 s0 (aEnd D below args s h0 (.inr (some (.int q)), g)) h 0 [(0, false, va_rf a0), (1, false, .int a1)] [] := by
  have C := X.1
  unfold fX2_err at hf
  refine v_aload_n (pc := 0) (j := 0) C dX2_err_0 rfl rfl ?_
  refine v_iload_n (pc := 1) (j := 1) C dX2_err_1 rfl rfl ?_
  obtain ⟨h1, eh1, hf⟩ := oB hf
  refine v_putF (pc := 2) C lk_X2_69 tyX2 tyX2_ok nmX2 (tyX2_ok 0 (by decide)) rfl rfl eh1 dX2_err_2 ?_
  refine v_iconst (pc := 5) (v := (0 : Int32)) C dX2_err_5 rfl ?_
  cases hf
  exact v_ireturn (pc := 6) C X.2.1 X.2.2.1 X.2.2.2.1 rfl dX2_err_6
theorem mX2_err {l : Launch} {D : aD} {h : aH} {a0 : Option Nat} {a1 : Int32} {q : Int32} {g : aH} (hst : l.stackTraces = false) (hf : fX2_err D h a0 a1 = some (q, g)) : aM l D yX2_err cX2_err 2 (some .int) 0 0 [va_rf a0, .int a1] h (.inr (some (.int q)), g) :=
  aM.ofX [(false, va_rf a0), (false, .int a1)] rfl (ap_r (ap_c rfl ap_0)) (by decide +kernel) hst (al_of (aw_r (aw_i aw_0)) (by decide)) fun p e s m args below meth c X => V.sub (lv' := [(0, false, va_rf a0), (1, false, .int a1)]) [0, 1] rfl (vX2_err X hf)
def fJ2_size (D : aD) (h : aH) (a0 : Option Nat) : Option (Int32) :=
  (gI h 15 2 a0).bind fun x1 =>
  some x1
theorem vJ2_size {h : aH} {a0 : Option Nat} {q : Int32} (X : aX p l R s m meth c D n0 s0 yJ2_size cJ2_size 0 0 1 (some .int) h0) (hf : fJ2_size D h a0 = some q) : V p l e R s m args below meth c D n0 s0 (aEnd D below args s h0 (.inr (some (.int q)), h)) h 0 [(0, false, va_rf a0)] [] := by
  have C := X.1
  unfold fJ2_size at hf
  refine v_aload_n (pc := 0) (j := 0) C dJ2_size_0 rfl rfl ?_
  obtain ⟨x1, ex1, hf⟩ := oB hf
  refine v_getF (pc := 1) C lk_J2_48 (gI_eq ex1) dJ2_size_1 ?_
  cases hf
  exact v_ireturn (pc := 4) C X.2.1 X.2.2.1 X.2.2.2.1 rfl dJ2_size_4
theorem mJ2_size {l : Launch} {D : aD} {h : aH} {a0 : Option Nat} {q : Int32} (hst : l.stackTraces = false) (hf : fJ2_size D h a0 = some q) : aM l D yJ2_size cJ2_size 1 (some .int) 0 0 [va_rf a0] h (.inr (some (.int q)), h) :=
  aM.ofX [(false, va_rf a0)] rfl (ap_r ap_0) (by decide +kernel) hst (al_of (aw_r aw_0) (by decide)) fun p e s m args below meth c X => V.sub (lv' := [(0, false, va_rf a0)]) [0] rfl (vJ2_size X hf)
def fJ11_max (D : aD) (h : aH) (a0 : Int32) (a1 : Int32) : Option (Int32) :=
  if a0 < a1 then
  (some a1)
  else
  (some a0)
theorem vJ11_max {h : aH} {a0 : Int32} {a1 : Int32} {q : Int32} (X : aX p l R s m meth c D n0 s0 yJ11_max cJ11_max 0 0 2 (some .int) h0) (hf : fJ11_max D h a0 a1 = some q) : V p l e R s m args below meth c D n0 s0 (aEnd D below args s h0 (.inr (some (.int q)), h)) h 0 [(0, false, .int a0), (1, false, .int a1)] [] := by
  have C := X.1
  unfold fJ11_max at hf
  refine v_iload_n (pc := 0) (j := 0) C dJ11_max_0 rfl rfl ?_
  refine v_iload_n (pc := 1) (j := 1) C dJ11_max_1 rfl rfl ?_
  refine v_icmp_lt (pc := 2) (tgt := 9) C dJ11_max_2 rfl (fun hc => ?_) (fun hc => ?_)
  · rw [if_pos hc] at hf
    refine v_iload_n (pc := 9) (j := 1) C dJ11_max_9 rfl rfl ?_
    cases hf
    exact v_ireturn (pc := 10) C X.2.1 X.2.2.1 X.2.2.2.1 rfl dJ11_max_10
  · rw [if_neg hc] at hf
    refine v_iload_n (pc := 5) (j := 0) C dJ11_max_5 rfl rfl ?_
    refine v_goto (pc := 6) (tgt := 10) C dJ11_max_6 rfl ?_
    cases hf
    exact v_ireturn (pc := 10) C X.2.1 X.2.2.1 X.2.2.2.1 rfl dJ11_max_10
theorem mJ11_max {l : Launch} {D : aD} {h : aH} {a0 : Int32} {a1 : Int32} {q : Int32} (hst : l.stackTraces = false) (hf : fJ11_max D h a0 a1 = some q) : aM l D yJ11_max cJ11_max 2 (some .int) 0 0 [.int a0, .int a1] h (.inr (some (.int q)), h) :=
  aM.ofX [(false, .int a0), (false, .int a1)] rfl (ap_c rfl (ap_c rfl ap_0)) (by decide +kernel) hst (al_of (aw_i (aw_i aw_0)) (by decide)) fun p e s m args below meth c X => V.sub (lv' := [(0, false, .int a0), (1, false, .int a1)]) [0, 1] rfl (vJ11_max X hf)
def fJ10_hugeLength (D : aD) (h : aH) (a0 : Int32) (a1 : Int32) : Option (Int32) :=
  (some ((a0 + a1))).bind fun x1 =>
  if 0 ≤ x1 then
  (if (2147483639 : Int32) < x1 then
  (some x1)
  else
  (some (2147483639 : Int32)))
  else
  (none)
theorem vJ10_hugeLength {h : aH} {a0 : Int32} {a1 : Int32} {q : Int32} (X : aX p l R s m meth c D n0 s0 yJ10_hugeLength cJ10_hugeLength 0 0 3 (some .int) h0) (hf : fJ10_hugeLength D h a0 a1 = some q) : V p l e R s m args below meth c D n0 s0 (aEnd D below args s h0 (.inr (some (.int q)), h)) h 0 [(0, false, .int a0), (1, false, .int a1)] [] := by
  have C := X.1
  unfold fJ10_hugeLength at hf
  refine v_iload_n (pc := 0) (j := 0) C dJ10_hugeLength_0 rfl rfl ?_
  refine v_iload_n (pc := 1) (j := 1) C dJ10_hugeLength_1 rfl rfl ?_
  refine v_iadd (pc := 2) C dJ10_hugeLength_2 ?_
  obtain ⟨x1, ex1, hf⟩ := oB hf
  refine vst (Option.some.inj ex1) (fun z => .int z :: []) ?_
  refine v_istore_n (pc := 3) (lv' := [(2, false, .int x1), (0, false, .int a0), (1, false, .int a1)]) C dJ10_hugeLength_3 rfl (by decide) rfl ?_
  refine v_iload_n (pc := 4) (j := 0) C dJ10_hugeLength_4 rfl rfl ?_
  refine v_if_ge (pc := 5) (tgt := 49) C dJ10_hugeLength_5 rfl (fun hc => ?_) (fun hc => ?_)
  · rw [if_pos hc] at hf
    refine v_iload_n (pc := 49) (j := 0) C dJ10_hugeLength_49 rfl rfl ?_
    refine v_ldc (pc := 50) (v := (2147483639 : Int32)) C q426 dJ10_hugeLength_50 ?_
    refine v_icmp_gt (pc := 52) (tgt := 58) C dJ10_hugeLength_52 rfl (fun hc => ?_) (fun hc => ?_)
    · rw [if_pos hc] at hf
      refine v_iload_n (pc := 58) (j := 0) C dJ10_hugeLength_58 rfl rfl ?_
      cases hf
      exact v_ireturn (pc := 59) C X.2.1 X.2.2.1 X.2.2.2.1 rfl dJ10_hugeLength_59
    · rw [if_neg hc] at hf
      refine v_ldc (pc := 55) (v := (2147483639 : Int32)) C q426 dJ10_hugeLength_55 ?_
      cases hf
      exact v_ireturn (pc := 57) C X.2.1 X.2.2.1 X.2.2.2.1 rfl dJ10_hugeLength_57
  · rw [if_neg hc] at hf
    cases hf
theorem mJ10_hugeLength {l : Launch} {D : aD} {h : aH} {a0 : Int32} {a1 : Int32} {q : Int32} (hst : l.stackTraces = false) (hf : fJ10_hugeLength D h a0 a1 = some q) : aM l D yJ10_hugeLength cJ10_hugeLength 3 (some .int) 0 0 [.int a0, .int a1] h (.inr (some (.int q)), h) :=
  aM.ofX [(false, .int a0), (false, .int a1)] rfl (ap_c rfl (ap_c rfl ap_0)) (by decide +kernel) hst (al_of (aw_i (aw_i aw_0)) (by decide)) fun p e s m args below meth c X => V.sub (lv' := [(0, false, .int a0), (1, false, .int a1)]) [0, 1] rfl (vJ10_hugeLength X hf)
def fJ10_newLength_p21 (D : aD) (h : aH) (a0 : Int32) (a1 : Int32) : Option (Int32) :=
  (fJ10_hugeLength D h a0 a1).bind fun x2 =>
  some x2
theorem vJ10_newLength_p21 {h : aH} {a0 : Int32} {a1 : Int32} {q : Int32} (X : aX p l R s m meth c D n0 s0 yJ10_newLength cJ10_newLength 1 22 4 (some .int) h0) (hf : fJ10_newLength_p21 D h a0 a1 = some q) : V p l e R s m args below meth c D n0 s0 (aEnd D below args s h0 (.inr (some (.int q)), h)) h 21 [(0, false, .int a0), (1, false, .int a1)] [] := by
  have C := X.1
  unfold fJ10_newLength_p21 at hf
  refine v_iload_n (pc := 21) (j := 0) C dJ10_newLength_21 rfl rfl ?_
  refine v_iload_n (pc := 22) (j := 1) C dJ10_newLength_22 rfl rfl ?_
  obtain ⟨x2, ex2, hf⟩ := oB hf
  refine v_call (pc := 23) (d_S (pc := 23) C (As := [.int a0, .int a1]) (rest := []) q427 q428 yk_J10_hugeLength rfl (by decide) (by decide) (Nat.le_trans aw_0 (by decide)) rfl (mJ10_hugeLength C.st ex2) dJ10_newLength_23) ?_
  cases hf
  exact v_ireturn (pc := 26) C X.2.1 X.2.2.1 X.2.2.2.1 rfl dJ10_newLength_26
def fJ10_newLength (D : aD) (h : aH) (a0 : Int32) (a1 : Int32) (a2 : Int32) : Option (Int32) :=
  (fJ11_max D h a1 a2).bind fun x2 =>
  (some ((a0 + x2))).bind fun x4 =>
  if x4 ≤ (0 : Int32) then
  (fJ10_newLength_p21 D h a0 a1)
  else
  (if (2147483639 : Int32) < x4 then
  (fJ10_newLength_p21 D h a0 a1)
  else
  (some x4))
theorem vJ10_newLength {h : aH} {a0 : Int32} {a1 : Int32} {a2 : Int32} {q : Int32} (X : aX p l R s m meth c D n0 s0 yJ10_newLength cJ10_newLength 1 22 4 (some .int) h0) (hf : fJ10_newLength D h a0 a1 a2 = some q) : V p l e R s m args below meth c D n0 s0 (aEnd D below args s h0 (.inr (some (.int q)), h)) h 0 [(0, false, .int a0), (1, false, .int a1), (2, false, .int a2)] [] := by
  have C := X.1
  unfold fJ10_newLength at hf
  refine v_iload_n (pc := 0) (j := 0) C dJ10_newLength_0 rfl rfl ?_
  refine v_iload_n (pc := 1) (j := 1) C dJ10_newLength_1 rfl rfl ?_
  refine v_iload_n (pc := 2) (j := 2) C dJ10_newLength_2 rfl rfl ?_
  obtain ⟨x2, ex2, hf⟩ := oB hf
  refine v_call (pc := 3) (d_S (pc := 3) C (As := [.int a1, .int a2]) (rest := [.int a0]) q423 q424 yk_J11_max rfl (by decide) (by decide) (Nat.le_trans (aw_i aw_0) (by decide)) rfl (mJ11_max C.st ex2) dJ10_newLength_3) ?_
  refine v_iadd (pc := 6) C dJ10_newLength_6 ?_
  obtain ⟨x4, ex4, hf⟩ := oB hf
  refine vst (Option.some.inj ex4) (fun z => .int z :: []) ?_
  refine v_istore_n (pc := 7) (lv' := [(3, false, .int x4), (0, false, .int a0), (1, false, .int a1), (2, false, .int a2)]) C dJ10_newLength_7 rfl (by decide) rfl ?_
  refine v_iconst (pc := 8) (v := (0 : Int32)) C dJ10_newLength_8 rfl ?_
  refine v_iload_n (pc := 9) (j := 0) C dJ10_newLength_9 rfl rfl ?_
  refine v_icmp_ge (pc := 10) (tgt := 21) C dJ10_newLength_10 rfl (fun hc => ?_) (fun hc => ?_)
  · rw [if_pos hc] at hf
    exact V.sub [1, 2] rfl (vJ10_newLength_p21 X hf)
  · rw [if_neg hc] at hf
    refine v_iload_n (pc := 13) (j := 0) C dJ10_newLength_13 rfl rfl ?_
    refine v_ldc (pc := 14) (v := (2147483639 : Int32)) C q426 dJ10_newLength_14 ?_
    refine v_icmp_gt (pc := 16) (tgt := 21) C dJ10_newLength_16 rfl (fun hc => ?_) (fun hc => ?_)
    · rw [if_pos hc] at hf
      exact V.sub [1, 2] rfl (vJ10_newLength_p21 X hf)
    · rw [if_neg hc] at hf
      refine v_iload_n (pc := 19) (j := 0) C dJ10_newLength_19 rfl rfl ?_
      cases hf
      exact v_ireturn (pc := 20) C X.2.1 X.2.2.1 X.2.2.2.1 rfl dJ10_newLength_20
theorem mJ10_newLength {l : Launch} {D : aD} {h : aH} {a0 : Int32} {a1 : Int32} {a2 : Int32} {q : Int32} (hst : l.stackTraces = false) (hf : fJ10_newLength D h a0 a1 a2 = some q) : aM l D yJ10_newLength cJ10_newLength 4 (some .int) 1 22 [.int a0, .int a1, .int a2] h (.inr (some (.int q)), h) :=
  aM.ofX [(false, .int a0), (false, .int a1), (false, .int a2)] rfl (ap_c rfl (ap_c rfl (ap_c rfl ap_0))) (by decide +kernel) hst (al_of (aw_i (aw_i (aw_i aw_0))) (by decide)) fun p e s m args below meth c X => V.sub (lv' := [(0, false, .int a0), (1, false, .int a1), (2, false, .int a2)]) [0, 1, 2] rfl (vJ10_newLength X hf)
def fJ11_min (D : aD) (h : aH) (a0 : Int32) (a1 : Int32) : Option (Int32) :=
  if a1 < a0 then
  (some a1)
  else
  (some a0)
theorem vJ11_min {h : aH} {a0 : Int32} {a1 : Int32} {q : Int32} (X : aX p l R s m meth c D n0 s0 yJ11_min cJ11_min 0 0 2 (some .int) h0) (hf : fJ11_min D h a0 a1 = some q) : V p l e R s m args below meth c D n0 s0 (aEnd D below args s h0 (.inr (some (.int q)), h)) h 0 [(0, false, .int a0), (1, false, .int a1)] [] := by
  have C := X.1
  unfold fJ11_min at hf
  refine v_iload_n (pc := 0) (j := 0) C dJ11_min_0 rfl rfl ?_
  refine v_iload_n (pc := 1) (j := 1) C dJ11_min_1 rfl rfl ?_
  refine v_icmp_gt (pc := 2) (tgt := 9) C dJ11_min_2 rfl (fun hc => ?_) (fun hc => ?_)
  · rw [if_pos hc] at hf
    refine v_iload_n (pc := 9) (j := 1) C dJ11_min_9 rfl rfl ?_
    cases hf
    exact v_ireturn (pc := 10) C X.2.1 X.2.2.1 X.2.2.2.1 rfl dJ11_min_10
  · rw [if_neg hc] at hf
    refine v_iload_n (pc := 5) (j := 0) C dJ11_min_5 rfl rfl ?_
    refine v_goto (pc := 6) (tgt := 10) C dJ11_min_6 rfl ?_
    cases hf
    exact v_ireturn (pc := 10) C X.2.1 X.2.2.1 X.2.2.2.1 rfl dJ11_min_10
theorem mJ11_min {l : Launch} {D : aD} {h : aH} {a0 : Int32} {a1 : Int32} {q : Int32} (hst : l.stackTraces = false) (hf : fJ11_min D h a0 a1 = some q) : aM l D yJ11_min cJ11_min 2 (some .int) 0 0 [.int a0, .int a1] h (.inr (some (.int q)), h) :=
  aM.ofX [(false, .int a0), (false, .int a1)] rfl (ap_c rfl (ap_c rfl ap_0)) (by decide +kernel) hst (al_of (aw_i (aw_i aw_0)) (by decide)) fun p e s m args below meth c X => V.sub (lv' := [(0, false, .int a0), (1, false, .int a1)]) [0, 1] rfl (vJ11_min X hf)
def fJ12_copyOf_2_p24 (D : aD) (h : aH) (a0 : Option Nat) (a1 : Int32) (t0 : Option Nat) : Option (Option Nat × aH) :=
  (eN h a0).bind fun x1 =>
  (fJ11_min D h x1 a1).bind fun x3 =>
  (aCpy D h a0 (0 : Int32) t0 (0 : Int32) x3).bind fun h5 =>
  some (t0, h5)
theorem vJ12_copyOf_2_p24 {h : aH} {a0 : Option Nat} {a1 : Int32} {t0 : Option Nat} {q : Option Nat} {g : aH} (X : aX p l R s m meth c D n0 s0 yJ12_copyOf_2 cJ12_copyOf_2 1 21 4 (some (.array (.object "java/lang/Object"))) h0) (hf : fJ12_copyOf_2_p24 D h a0 a1 t0 = some (q, g)) : V p l e R s m args below meth c D n0 s0 (aEnd D below args s h0 (.inr (some (va_rf q)), g)) h 24 [(0, false, va_rf a0), (1, false, .int a1)] [va_rf t0] := by
  have C := X.1
  unfold fJ12_copyOf_2_p24 at hf
  refine v_astore_n (pc := 24) (lv' := [(3, false, va_rf t0), (0, false, va_rf a0), (1, false, .int a1)]) C dJ12_copyOf_2_24 rfl (by decide) rfl ?_
  refine v_aload_n (pc := 25) (j := 1) C dJ12_copyOf_2_25 rfl rfl ?_
  refine v_iconst (pc := 26) (v := (0 : Int32)) C dJ12_copyOf_2_26 rfl ?_
  refine v_aload_n (pc := 27) (j := 0) C dJ12_copyOf_2_27 rfl rfl ?_
  refine v_iconst (pc := 28) (v := (0 : Int32)) C dJ12_copyOf_2_28 rfl ?_
  refine v_aload_n (pc := 29) (j := 1) C dJ12_copyOf_2_29 rfl rfl ?_
  obtain ⟨x1, ex1, hf⟩ := oB hf
  refine v_alen (pc := 30) C ex1 dJ12_copyOf_2_30 ?_
  refine v_iload_n (pc := 31) (j := 2) C dJ12_copyOf_2_31 rfl rfl ?_
  obtain ⟨x3, ex3, hf⟩ := oB hf
  refine v_call (pc := 32) (d_S (pc := 32) C (As := [.int x1, .int a1]) (rest := [.int (0 : Int32), va_rf t0, .int (0 : Int32), va_rf a0]) q476 q477 yk_J11_min rfl (by decide) (by decide) (Nat.le_trans (aw_i (aw_r (aw_i (aw_r aw_0)))) (by decide)) rfl (mJ11_min C.st ex3) dJ12_copyOf_2_32) ?_
  obtain ⟨h5, eh5, hf⟩ := oB hf
  refine v_copy (pc := 35) C q479 q481 q480 q90 eh5 (by decide) (Nat.le_trans (Nat.add_le_add_right aw_0 _) (by decide)) dJ12_copyOf_2_35 ?_
  refine v_aload_n (pc := 38) (j := 0) C dJ12_copyOf_2_38 rfl rfl ?_
  cases hf
  exact v_areturn (pc := 39) C X.2.1 X.2.2.1 X.2.2.2.1 (Or.inr ⟨_, rfl⟩) rfl dJ12_copyOf_2_39
def fJ12_copyOf_2 (D : aD) (h : aH) (a0 : Option Nat) (a1 : Int32) (a2 : Option Nat) : Option (Option Nat × aH) :=
  (asR (D.2.2.2.2 100)).bind fun x1 =>
  if a2 = x1 then
  ((aMkA D h 103 a1 .null).bind fun h2 =>
  fJ12_copyOf_2_p24 D h2 a0 a1 (some h.1))
  else
  (none)
theorem vJ12_copyOf_2 {h : aH} {a0 : Option Nat} {a1 : Int32} {a2 : Option Nat} {q : Option Nat} {g : aH} (X : aX p l R s m meth c D n0 s0 yJ12_copyOf_2 cJ12_copyOf_2 1 21 4 (some (.array (.object "java/lang/Object"))) h0) (hf : fJ12_copyOf_2 D h a0 a1 a2 = some (q, g)) : V p l e R s m args below meth c D n0 s0 (aEnd D below args s h0 (.inr (some (va_rf q)), g)) h 0 [(0, false, va_rf a0), (1, false, .int a1), (2, false, va_rf a2)] [] := by
  have C := X.1
  unfold fJ12_copyOf_2 at hf
  refine v_aload_n (pc := 0) (j := 2) C dJ12_copyOf_2_0 rfl rfl ?_
  obtain ⟨x1, ex1, hf⟩ := oB hf
  refine v_mirrorR (pc := 1) C q474 ex1 dJ12_copyOf_2_1 ?_
  refine v_acmp_ne (pc := 3) (tgt := 13) C dJ12_copyOf_2_3 rfl (fun hc => ?_) (fun hc => ?_)
  · rw [if_neg hc] at hf
    refine v_aload_n (pc := 13) (j := 2) C dJ12_copyOf_2_13 rfl rfl ?_
    cases hf
  · rw [if_pos (Decidable.of_not_not hc)] at hf
    refine v_iload_n (pc := 6) (j := 1) C dJ12_copyOf_2_6 rfl rfl ?_
    obtain ⟨h2, eh2, hf⟩ := oB hf
    refine v_anewarray (pc := 7) (t := 103) C rfl (by decide) q475 q358 eh2 dJ12_copyOf_2_7 ?_
    refine v_goto (pc := 10) (tgt := 24) C dJ12_copyOf_2_10 rfl ?_
    exact V.sub [0, 1] rfl (vJ12_copyOf_2_p24 X hf)
theorem mJ12_copyOf_2 {l : Launch} {D : aD} {h : aH} {a0 : Option Nat} {a1 : Int32} {a2 : Option Nat} {q : Option Nat} {g : aH} (hst : l.stackTraces = false) (hf : fJ12_copyOf_2 D h a0 a1 a2 = some (q, g)) : aM l D yJ12_copyOf_2 cJ12_copyOf_2 4 (some (.array (.object "java/lang/Object"))) 1 21 [va_rf a0, .int a1, va_rf a2] h (.inr (some (va_rf q)), g) :=
  aM.ofX [(false, va_rf a0), (false, .int a1), (false, va_rf a2)] rfl (ap_r (ap_c rfl (ap_r ap_0))) (by decide +kernel) hst (al_of (aw_r (aw_i (aw_r aw_0))) (by decide)) fun p e s m args below meth c X => V.sub (lv' := [(0, false, va_rf a0), (1, false, .int a1), (2, false, va_rf a2)]) [0, 1, 2] rfl (vJ12_copyOf_2 X hf)
def fJ12_copyOf (D : aD) (h : aH) (a0 : Option Nat) (a1 : Int32) : Option (Option Nat × aH) :=
  (aIs h 103 a0).bind fun _ =>
  (asR (D.2.2.2.2 100)).bind fun x1 =>
  bnd2 (fJ12_copyOf_2 D h a0 a1 x1) fun x3 h4 =>
  some (x3, h4)
theorem vJ12_copyOf {h : aH} {a0 : Option Nat} {a1 : Int32} {q : Option Nat} {g : aH} (X : aX p l R s m meth c D n0 s0 yJ12_copyOf cJ12_copyOf 2 44 2 (some (.array (.object "java/lang/Object"))) h0) (hf : fJ12_copyOf D h a0 a1 = some (q, g)) : V p l e R s m args below meth c D n0 s0 (aEnd D below args s h0 (.inr (some (va_rf q)), g)) h 0 [(0, false, va_rf a0), (1, false, .int a1)] [] := by
  have C := X.1
  unfold fJ12_copyOf at hf
  refine v_aload_n (pc := 0) (j := 0) C dJ12_copyOf_0 rfl rfl ?_
  refine v_iload_n (pc := 1) (j := 1) C dJ12_copyOf_1 rfl rfl ?_
  refine v_aload_n (pc := 2) (j := 0) C dJ12_copyOf_2 rfl rfl ?_
  obtain ⟨bx1, zx1, hf⟩ := oB hf
  obtain ⟨hrx1, _, hbx1⟩ := aIs_eq zx1
  obtain ⟨x1, ex1, hf⟩ := oB hf
  refine v_getClassR (pc := 3) C hrx1 hbx1 q433 q2963 (by decide) (Nat.le_trans (Nat.add_le_add_right (aw_i (aw_r aw_0)) 14) (by decide)) ex1 dJ12_copyOf_3 ?_
  obtain ⟨x3, h4, ex3, hf⟩ := bnd2_eq hf
  refine v_call (pc := 6) (d_S (pc := 6) C (As := [va_rf a0, .int a1, va_rf x1]) (rest := []) q471 q472 yk_J12_copyOf_2 rfl (by decide) (by decide) (Nat.le_trans aw_0 (by decide)) rfl (mJ12_copyOf_2 C.st ex3) dJ12_copyOf_6) ?_
  cases hf
  exact v_areturn (pc := 9) C X.2.1 X.2.2.1 X.2.2.2.1 (Or.inr ⟨_, rfl⟩) rfl dJ12_copyOf_9
theorem mJ12_copyOf {l : Launch} {D : aD} {h : aH} {a0 : Option Nat} {a1 : Int32} {q : Option Nat} {g : aH} (hst : l.stackTraces = false) (hf : fJ12_copyOf D h a0 a1 = some (q, g)) : aM l D yJ12_copyOf cJ12_copyOf 2 (some (.array (.object "java/lang/Object"))) 2 44 [va_rf a0, .int a1] h (.inr (some (va_rf q)), g) :=
  aM.ofX [(false, va_rf a0), (false, .int a1)] rfl (ap_r (ap_c rfl ap_0)) (by decide +kernel) hst (al_of (aw_r (aw_i aw_0)) (by decide)) fun p e s m args below meth c X => V.sub (lv' := [(0, false, va_rf a0), (1, false, .int a1)]) [0, 1] rfl (vJ12_copyOf X hf)
def fJ2_grow_2_p20 (D : aD) (h : aH) (a0 : Option Nat) (a1 : Int32) (a2 : Int32) : Option (Option Nat × aH) :=
  (fJ10_newLength D h a2 (a1 - a2) (a2 >>> ((1 : Int32) &&& 31))).bind fun x2 =>
  (gR h 15 1 a0).bind fun x4 =>
  bnd2 (fJ12_copyOf D h x4 x2) fun x6 h7 =>
  (pF D h7 15 1 a0 (va_rf x6)).bind fun h8 =>
  some (x6, h8)
theorem vJ2_grow_2_p20 {h : aH} {a0 : Option Nat} {a1 : Int32} {a2 : Int32} {q : Option Nat} {g : aH} (X : aX p l R s m meth c D n0 s0 yJ2_grow_2 cJ2_grow_2 3 65 4 (some (.array (.object "java/lang/Object"))) h0) (hf : fJ2_grow_2_p20 D h a0 a1 a2 = some (q, g)) : V p l e R s m args below meth c D n0 s0 (aEnd D below args s h0 (.inr (some (va_rf q)), g)) h 20 [(0, false, va_rf a0), (1, false, .int a1), (2, false, .int a2)] [] := by
  have C := X.1
  unfold fJ2_grow_2_p20 at hf
  refine v_iload_n (pc := 20) (j := 2) C dJ2_grow_2_20 rfl rfl ?_
  refine v_iload_n (pc := 21) (j := 1) C dJ2_grow_2_21 rfl rfl ?_
  refine v_iload_n (pc := 22) (j := 2) C dJ2_grow_2_22 rfl rfl ?_
  refine v_isub (pc := 23) C dJ2_grow_2_23 ?_
  refine v_iload_n (pc := 24) (j := 2) C dJ2_grow_2_24 rfl rfl ?_
  refine v_iconst (pc := 25) (v := (1 : Int32)) C dJ2_grow_2_25 rfl ?_
  refine v_ishr (pc := 26) C dJ2_grow_2_26 ?_
  obtain ⟨x2, ex2, hf⟩ := oB hf
  refine v_call (pc := 27) (d_S (pc := 27) C (As := [.int a2, .int (a1 - a2), .int (a2 >>> ((1 : Int32) &&& 31))]) (rest := []) q890 q421 yk_J10_newLength rfl (by decide) (by decide) (Nat.le_trans aw_0 (by decide)) rfl (mJ10_newLength C.st ex2) dJ2_grow_2_27) ?_
  refine v_istore_n (pc := 30) (lv' := [(3, false, .int x2), (0, false, va_rf a0), (1, false, .int a1), (2, false, .int a2)]) C dJ2_grow_2_30 rfl (by decide) rfl ?_
  refine v_aload_n (pc := 31) (j := 1) C dJ2_grow_2_31 rfl rfl ?_
  refine v_aload_n (pc := 32) (j := 1) C dJ2_grow_2_32 rfl rfl ?_
  obtain ⟨x4, ex4, hf⟩ := oB hf
  refine v_getF (pc := 33) C lk_J2_9 (gR_eq ex4) dJ2_grow_2_33 ?_
  refine v_iload_n (pc := 36) (j := 0) C dJ2_grow_2_36 rfl rfl ?_
  obtain ⟨x6, h7, ex6, hf⟩ := bnd2_eq hf
  refine v_call (pc := 37) (d_S (pc := 37) C (As := [va_rf x4, .int x2]) (rest := [va_rf a0]) q891 q431 yk_J12_copyOf rfl (by decide) (by decide) (Nat.le_trans (aw_r aw_0) (by decide)) rfl (mJ12_copyOf C.st ex6) dJ2_grow_2_37) ?_
  refine v_dup_x1 (pc := 40) C dJ2_grow_2_40 (va_rfc _) (va_rfc _) ?_
  obtain ⟨h8, eh8, hf⟩ := oB hf
  refine v_putF (pc := 41) C lk_J2_9 tyJ2 tyJ2_ok nmJ2 (tyJ2_ok 1 (by decide)) rfl ft_a eh8 dJ2_grow_2_41 ?_
  cases hf
  exact v_areturn (pc := 44) C X.2.1 X.2.2.1 X.2.2.2.1 (Or.inr ⟨_, rfl⟩) rfl dJ2_grow_2_44
def fJ2_grow_2 (D : aD) (h : aH) (a0 : Option Nat) (a1 : Int32) : Option (Option Nat × aH) :=
  (gR h 15 1 a0).bind fun x1 =>
  (eN h x1).bind fun x2 =>
  if 0 < x2 then
  (fJ2_grow_2_p20 D h a0 a1 x2)
  else
  ((gR h 15 1 a0).bind fun x3 =>
  (asR (D.2.2.2.2 0)).bind fun x4 =>
  if x3 = x4 then
  ((fJ11_max D h (10 : Int32) a1).bind fun x6 =>
  (aMkA D h 103 x6 .null).bind fun h8 =>
  (pF D h8 15 1 a0 (va_rf (some h.1))).bind fun h9 =>
  some ((some h.1), h9))
  else
  (fJ2_grow_2_p20 D h a0 a1 x2))
theorem vJ2_grow_2 {h : aH} {a0 : Option Nat} {a1 : Int32} {q : Option Nat} {g : aH} (X : aX p l R s m meth c D n0 s0 yJ2_grow_2 cJ2_grow_2 3 65 4 (some (.array (.object "java/lang/Object"))) h0) (hf : fJ2_grow_2 D h a0 a1 = some (q, g)) : V p l e R s m args below meth c D n0 s0 (aEnd D below args s h0 (.inr (some (va_rf q)), g)) h 0 [(0, false, va_rf a0), (1, false, .int a1)] [] := by
  have C := X.1
  unfold fJ2_grow_2 at hf
  refine v_aload_n (pc := 0) (j := 0) C dJ2_grow_2_0 rfl rfl ?_
  obtain ⟨x1, ex1, hf⟩ := oB hf
  refine v_getF (pc := 1) C lk_J2_9 (gR_eq ex1) dJ2_grow_2_1 ?_
  obtain ⟨x2, ex2, hf⟩ := oB hf
  refine v_alen (pc := 4) C ex2 dJ2_grow_2_4 ?_
  refine v_istore_n (pc := 5) (lv' := [(2, false, .int x2), (0, false, va_rf a0), (1, false, .int a1)]) C dJ2_grow_2_5 rfl (by decide) rfl ?_
  refine v_iload_n (pc := 6) (j := 0) C dJ2_grow_2_6 rfl rfl ?_
  refine v_if_gt (pc := 7) (tgt := 20) C dJ2_grow_2_7 rfl (fun hc => ?_) (fun hc => ?_)
  · rw [if_pos hc] at hf
    exact V.sub [1, 2, 0] rfl (vJ2_grow_2_p20 X hf)
  · rw [if_neg hc] at hf
    refine v_aload_n (pc := 10) (j := 1) C dJ2_grow_2_10 rfl rfl ?_
    obtain ⟨x3, ex3, hf⟩ := oB hf
    refine v_getF (pc := 11) C lk_J2_9 (gR_eq ex3) dJ2_grow_2_11 ?_
    obtain ⟨x4, ex4, hf⟩ := oB hf
    refine v_statR (pc := 14) (k9 := 0) C rfl q152 ex4 dJ2_grow_2_14 ?_
    refine v_acmp_eq (pc := 17) (tgt := 45) C dJ2_grow_2_17 rfl (fun hc => ?_) (fun hc => ?_)
    · rw [if_pos hc] at hf
      refine v_aload_n (pc := 45) (j := 1) C dJ2_grow_2_45 rfl rfl ?_
      refine v_bipush (pc := 46) (v := (10 : Int32)) C dJ2_grow_2_46 rfl ?_
      refine v_iload_n (pc := 48) (j := 2) C dJ2_grow_2_48 rfl rfl ?_
      obtain ⟨x6, ex6, hf⟩ := oB hf
      refine v_call (pc := 49) (d_S (pc := 49) C (As := [.int (10 : Int32), .int a1]) (rest := [va_rf a0]) q892 q424 yk_J11_max rfl (by decide) (by decide) (Nat.le_trans (aw_r aw_0) (by decide)) rfl (mJ11_max C.st ex6) dJ2_grow_2_49) ?_
      obtain ⟨h8, eh8, hf⟩ := oB hf
      refine v_anewarray (pc := 52) (t := 103) C rfl (by decide) q893 q358 eh8 dJ2_grow_2_52 ?_
      refine v_dup_x1 (pc := 55) C dJ2_grow_2_55 (va_rfc _) (va_rfc _) ?_
      obtain ⟨h9, eh9, hf⟩ := oB hf
      refine v_putF (pc := 56) C lk_J2_9 tyJ2 tyJ2_ok nmJ2 (tyJ2_ok 1 (by decide)) rfl ft_a eh9 dJ2_grow_2_56 ?_
      cases hf
      exact v_areturn (pc := 59) C X.2.1 X.2.2.1 X.2.2.2.1 (Or.inr ⟨_, rfl⟩) rfl dJ2_grow_2_59
    · rw [if_neg hc] at hf
      exact V.sub [1, 2, 0] rfl (vJ2_grow_2_p20 X hf)
theorem mJ2_grow_2 {l : Launch} {D : aD} {h : aH} {a0 : Option Nat} {a1 : Int32} {q : Option Nat} {g : aH} (hst : l.stackTraces = false) (hf : fJ2_grow_2 D h a0 a1 = some (q, g)) : aM l D yJ2_grow_2 cJ2_grow_2 4 (some (.array (.object "java/lang/Object"))) 3 65 [va_rf a0, .int a1] h (.inr (some (va_rf q)), g) :=
  aM.ofX [(false, va_rf a0), (false, .int a1)] rfl (ap_r (ap_c rfl ap_0)) (by decide +kernel) hst (al_of (aw_r (aw_i aw_0)) (by decide)) fun p e s m args below meth c X => V.sub (lv' := [(0, false, va_rf a0), (1, false, .int a1)]) [0, 1] rfl (vJ2_grow_2 X hf)
def fJ2_grow (D : aD) (h : aH) (a0 : Option Nat) : Option (Option Nat × aH) :=
  (gI h 15 2 a0).bind fun x1 =>
  (aIs h 15 a0).bind fun _ =>
  bnd2 (fJ2_grow_2 D h a0 (x1 + (1 : Int32))) fun x3 h4 =>
  some (x3, h4)
theorem vJ2_grow {h : aH} {a0 : Option Nat} {q : Option Nat} {g : aH} (X : aX p l R s m meth c D n0 s0 yJ2_grow cJ2_grow 4 88 1 (some (.array (.object "java/lang/Object"))) h0) (hf : fJ2_grow D h a0 = some (q, g)) : V p l e R s m args below meth c D n0 s0 (aEnd D below args s h0 (.inr (some (va_rf q)), g)) h 0 [(0, false, va_rf a0)] [] := by
  have C := X.1
  unfold fJ2_grow at hf
  refine v_aload_n (pc := 0) (j := 0) C dJ2_grow_0 rfl rfl ?_
  refine v_aload_n (pc := 1) (j := 0) C dJ2_grow_1 rfl rfl ?_
  obtain ⟨x1, ex1, hf⟩ := oB hf
  refine v_getF (pc := 2) C lk_J2_48 (gI_eq ex1) dJ2_grow_2 ?_
  refine v_iconst (pc := 5) (v := (1 : Int32)) C dJ2_grow_5 rfl ?_
  refine v_iadd (pc := 6) C dJ2_grow_6 ?_
  obtain ⟨b2, eb2, hf⟩ := oB hf
  obtain ⟨rb2, _, kb2⟩ := aIs_eq eb2
  obtain ⟨x3, h4, ex3, hf⟩ := bnd2_eq hf
  refine v_call (pc := 7) (d_V (pc := 7) C (As := [.int (x1 + (1 : Int32))]) (rest := []) rb2 kb2 nt_15 q886 yi_J2_grow_2_java_util_ArrayList yk_J2_grow_2 rfl (by decide) (by decide) (Nat.le_trans aw_0 (by decide)) rfl (mJ2_grow_2 C.st ex3) dJ2_grow_7) ?_
  cases hf
  exact v_areturn (pc := 10) C X.2.1 X.2.2.1 X.2.2.2.1 (Or.inr ⟨_, rfl⟩) rfl dJ2_grow_10
theorem mJ2_grow {l : Launch} {D : aD} {h : aH} {a0 : Option Nat} {q : Option Nat} {g : aH} (hst : l.stackTraces = false) (hf : fJ2_grow D h a0 = some (q, g)) : aM l D yJ2_grow cJ2_grow 1 (some (.array (.object "java/lang/Object"))) 4 88 [va_rf a0] h (.inr (some (va_rf q)), g) :=
  aM.ofX [(false, va_rf a0)] rfl (ap_r ap_0) (by decide +kernel) hst (al_of (aw_r aw_0) (by decide)) fun p e s m args below meth c X => V.sub (lv' := [(0, false, va_rf a0)]) [0] rfl (vJ2_grow X hf)
def fJ2_add_2_p11 (D : aD) (h : aH) (a0 : Option Nat) (a1 : Option Nat) (a2 : Option Nat) (a3 : Int32) : Option (aH) :=
  (sR D h a2 a3 a1).bind fun h1 =>
  (pF D h1 15 2 a0 (.int (a3 + (1 : Int32)))).bind fun h2 =>
  some h2
theorem vJ2_add_2_p11 {h : aH} {a0 : Option Nat} {a1 : Option Nat} {a2 : Option Nat} {a3 : Int32} {g : aH} (X : aX p l R s m meth c D n0 s0 yJ2_add_2 cJ2_add_2 5 108 4 (none) h0) (hf : fJ2_add_2_p11 D h a0 a1 a2 a3 = some g) : V p l e R s m args below meth c D n0 s0 (aEnd D below args s h0 (.inr none, g)) h 11 [(0, false, va_rf a0), (1, false, va_rf a1), (2, false, va_rf a2), (3, false, .int a3)] [] := by
  have C := X.1
  unfold fJ2_add_2_p11 at hf
  refine v_aload_n (pc := 11) (j := 2) C dJ2_add_2_11 rfl rfl ?_
  refine v_iload_n (pc := 12) (j := 3) C dJ2_add_2_12 rfl rfl ?_
  refine v_aload_n (pc := 13) (j := 1) C dJ2_add_2_13 rfl rfl ?_
  obtain ⟨h1, eh1, hf⟩ := oB hf
  refine v_aastore (pc := 14) C eh1 dJ2_add_2_14 ?_
  refine v_aload_n (pc := 15) (j := 0) C dJ2_add_2_15 rfl rfl ?_
  refine v_iload_n (pc := 16) (j := 3) C dJ2_add_2_16 rfl rfl ?_
  refine v_iconst (pc := 17) (v := (1 : Int32)) C dJ2_add_2_17 rfl ?_
  refine v_iadd (pc := 18) C dJ2_add_2_18 ?_
  obtain ⟨h2, eh2, hf⟩ := oB hf
  refine v_putF (pc := 19) C lk_J2_48 tyJ2 tyJ2_ok nmJ2 (tyJ2_ok 2 (by decide)) rfl rfl eh2 dJ2_add_2_19 ?_
  cases hf
  exact v_return (pc := 22) C X.2.1 X.2.2.1 X.2.2.2.1 rfl dJ2_add_2_22
def fJ2_add_2 (D : aD) (h : aH) (a0 : Option Nat) (a1 : Option Nat) (a2 : Option Nat) (a3 : Int32) : Option (aH) :=
  (eN h a2).bind fun x1 =>
  if a3 = x1 then
  ((aIs h 15 a0).bind fun _ =>
  bnd2 (fJ2_grow D h a0) fun x3 h4 =>
  fJ2_add_2_p11 D h4 a0 a1 x3 a3)
  else
  (fJ2_add_2_p11 D h a0 a1 a2 a3)
theorem vJ2_add_2 {h : aH} {a0 : Option Nat} {a1 : Option Nat} {a2 : Option Nat} {a3 : Int32} {g : aH} (X : aX p l R s m meth c D n0 s0 yJ2_add_2 cJ2_add_2 5 108 4 (none) h0) (hf : fJ2_add_2 D h a0 a1 a2 a3 = some g) : V p l e R s m args below meth c D n0 s0 (aEnd D below args s h0 (.inr none, g)) h 0 [(0, false, va_rf a0), (1, false, va_rf a1), (2, false, va_rf a2), (3, false, .int a3)] [] := by
  have C := X.1
  unfold fJ2_add_2 at hf
  refine v_iload_n (pc := 0) (j := 3) C dJ2_add_2_0 rfl rfl ?_
  refine v_aload_n (pc := 1) (j := 2) C dJ2_add_2_1 rfl rfl ?_
  obtain ⟨x1, ex1, hf⟩ := oB hf
  refine v_alen (pc := 2) C ex1 dJ2_add_2_2 ?_
  refine v_icmp_ne (pc := 3) (tgt := 11) C dJ2_add_2_3 rfl (fun hc => ?_) (fun hc => ?_)
  · rw [if_neg hc] at hf
    exact V.sub [0, 1, 2, 3] rfl (vJ2_add_2_p11 X hf)
  · rw [if_pos (Decidable.of_not_not hc)] at hf
    refine v_aload_n (pc := 6) (j := 0) C dJ2_add_2_6 rfl rfl ?_
    obtain ⟨b2, eb2, hf⟩ := oB hf
    obtain ⟨rb2, _, kb2⟩ := aIs_eq eb2
    obtain ⟨x3, h4, ex3, hf⟩ := bnd2_eq hf
    refine v_call (pc := 7) (d_V (pc := 7) C (As := []) (rest := []) rb2 kb2 nt_15 q882 yi_J2_grow_java_util_ArrayList yk_J2_grow rfl (by decide) (by decide) (Nat.le_trans aw_0 (by decide)) rfl (mJ2_grow C.st ex3) dJ2_add_2_7) ?_
    refine v_astore_n (pc := 10) (lv' := [(2, false, va_rf x3), (0, false, va_rf a0), (1, false, va_rf a1), (3, false, .int a3)]) C dJ2_add_2_10 rfl (by decide) rfl ?_
    exact V.sub [1, 2, 0, 3] rfl (vJ2_add_2_p11 X hf)
theorem mJ2_add_2 {l : Launch} {D : aD} {h : aH} {a0 : Option Nat} {a1 : Option Nat} {a2 : Option Nat} {a3 : Int32} {g : aH} (hst : l.stackTraces = false) (hf : fJ2_add_2 D h a0 a1 a2 a3 = some g) : aM l D yJ2_add_2 cJ2_add_2 4 (none) 5 108 [va_rf a0, va_rf a1, va_rf a2, .int a3] h (.inr none, g) :=
  aM.ofX [(false, va_rf a0), (false, va_rf a1), (false, va_rf a2), (false, .int a3)] rfl (ap_r (ap_r (ap_r (ap_c rfl ap_0)))) (by decide +kernel) hst (al_of (aw_r (aw_r (aw_r (aw_i aw_0)))) (by decide)) fun p e s m args below meth c X => V.sub (lv' := [(0, false, va_rf a0), (1, false, va_rf a1), (2, false, va_rf a2), (3, false, .int a3)]) [0, 1, 2, 3] rfl (vJ2_add_2 X hf)
def fJ2_add (D : aD) (h : aH) (a0 : Option Nat) (a1 : Option Nat) : Option (Int32 × aH) :=
  (gI h 15 0 a0).bind fun x1 =>
  (pF D h 15 0 a0 (.int (x1 + (1 : Int32)))).bind fun h2 =>
  (gR h2 15 1 a0).bind fun x3 =>
  (gI h2 15 2 a0).bind fun x4 =>
  (aIs h2 15 a0).bind fun _ =>
  (fJ2_add_2 D h2 a0 a1 x3 x4).bind fun h7 =>
  some ((1 : Int32), h7)
theorem vJ2_add {h : aH} {a0 : Option Nat} {a1 : Option Nat} {q : Int32} {g : aH} (X : aX p l R s m meth c D n0 s0 yJ2_add cJ2_add 6 131 2 (some .boolean) h0) (hf : fJ2_add D h a0 a1 = some (q, g)) : V p l e R s m args below meth c D n0 s0 (aEnd D below args s h0 (.inr (some (.int q)), g)) h 0 [(0, false, va_rf a0), (1, false, va_rf a1)] [] := by
  have C := X.1
  unfold fJ2_add at hf
  refine v_aload_n (pc := 0) (j := 0) C dJ2_add_0 rfl rfl ?_
  refine v_dup (pc := 1) C dJ2_add_1 (va_rfc _) ?_
  obtain ⟨x1, ex1, hf⟩ := oB hf
  refine v_getF (pc := 2) C lk_J2_63 (gI_eq ex1) dJ2_add_2 ?_
  refine v_iconst (pc := 5) (v := (1 : Int32)) C dJ2_add_5 rfl ?_
  refine v_iadd (pc := 6) C dJ2_add_6 ?_
  obtain ⟨h2, eh2, hf⟩ := oB hf
  refine v_putF (pc := 7) C lk_J2_63 tyJ2 tyJ2_ok nmJ2 (tyJ2_ok 0 (by decide)) rfl rfl eh2 dJ2_add_7 ?_
  refine v_aload_n (pc := 10) (j := 0) C dJ2_add_10 rfl rfl ?_
  refine v_aload_n (pc := 11) (j := 1) C dJ2_add_11 rfl rfl ?_
  refine v_aload_n (pc := 12) (j := 0) C dJ2_add_12 rfl rfl ?_
  obtain ⟨x3, ex3, hf⟩ := oB hf
  refine v_getF (pc := 13) C lk_J2_9 (gR_eq ex3) dJ2_add_13 ?_
  refine v_aload_n (pc := 16) (j := 0) C dJ2_add_16 rfl rfl ?_
  obtain ⟨x4, ex4, hf⟩ := oB hf
  refine v_getF (pc := 17) C lk_J2_48 (gI_eq ex4) dJ2_add_17 ?_
  obtain ⟨b5, eb5, hf⟩ := oB hf
  obtain ⟨rb5, _, kb5⟩ := aIs_eq eb5
  obtain ⟨h7, ex6, hf⟩ := oB hf
  refine v_callU (pc := 20) (d_V (pc := 20) C (As := [va_rf a1, va_rf x3, .int x4]) (rest := []) rb5 kb5 nt_15 q878 yi_J2_add_2_java_util_ArrayList yk_J2_add_2 rfl (by decide) (by decide) (Nat.le_trans aw_0 (by decide)) rfl (mJ2_add_2 C.st ex6) dJ2_add_20) ?_
  refine v_iconst (pc := 23) (v := (1 : Int32)) C dJ2_add_23 rfl ?_
  cases hf
  exact v_zreturn (pc := 24) C X.2.1 X.2.2.1 X.2.2.2.1 (by decide) rfl dJ2_add_24
theorem mJ2_add {l : Launch} {D : aD} {h : aH} {a0 : Option Nat} {a1 : Option Nat} {q : Int32} {g : aH} (hst : l.stackTraces = false) (hf : fJ2_add D h a0 a1 = some (q, g)) : aM l D yJ2_add cJ2_add 2 (some .boolean) 6 131 [va_rf a0, va_rf a1] h (.inr (some (.int q)), g) :=
  aM.ofX [(false, va_rf a0), (false, va_rf a1)] rfl (ap_r (ap_r ap_0)) (by decide +kernel) hst (al_of (aw_r (aw_r aw_0)) (by decide)) fun p e s m args below meth c X => V.sub (lv' := [(0, false, va_rf a0), (1, false, va_rf a1)]) [0, 1] rfl (vJ2_add X hf)
def fX2_addPanel (D : aD) (h : aH) (a0 : Option Nat) (a1 : Int32) : Option (Int32 × aH) :=
  (pF D h 1 0 a0 (.int (0 : Int32))).bind fun h1 =>
  (fX2_in D h1 a1 (0 : Int32) (1000 : Int32)).bind fun x3 =>
  if x3 = 0 then
  ((aIs h1 1 a0).bind fun _ =>
  bnd2 (fX2_err D h1 a0 (1 : Int32)) fun x37 h38 =>
  some (x37, h38))
  else
  ((gR h1 1 4 a0).bind fun x5 =>
  (aIs h1 15 x5).bind fun _ =>
  (fJ2_size D h1 x5).bind fun x7 =>
  if x7 = (6 : Int32) then
  ((aIs h1 1 a0).bind fun _ =>
  bnd2 (fX2_err D h1 a0 (2 : Int32)) fun x34 h35 =>
  some (x34, h35))
  else
  ((gR h1 1 4 a0).bind fun x9 =>
  (aMkA D h1 100 (10 : Int32) (.int 0)).bind fun h10 =>
  (sF D h10 100 (some h1.1) (0 : Int32) (.int a1)).bind fun h11 =>
  (sF D h11 100 (some h1.1) (1 : Int32) (.int (0 : Int32))).bind fun h12 =>
  (sF D h12 100 (some h1.1) (2 : Int32) (.int (0 : Int32))).bind fun h13 =>
  (sF D h13 100 (some h1.1) (3 : Int32) (.int (0 : Int32))).bind fun h14 =>
  (sF D h14 100 (some h1.1) (4 : Int32) (.int (0 : Int32))).bind fun h15 =>
  (sF D h15 100 (some h1.1) (5 : Int32) (.int (0 : Int32))).bind fun h16 =>
  (sF D h16 100 (some h1.1) (6 : Int32) (.int (1000 : Int32))).bind fun h17 =>
  (sF D h17 100 (some h1.1) (7 : Int32) (.int (100 : Int32))).bind fun h18 =>
  (sF D h18 100 (some h1.1) (8 : Int32) (.int (0 : Int32))).bind fun h19 =>
  (sF D h19 100 (some h1.1) (9 : Int32) (.int (0 : Int32))).bind fun h20 =>
  (aIs h20 15 x9).bind fun _ =>
  bnd2 (fJ2_add D h20 x9 (some h1.1)) fun x22 h23 =>
  (gR h23 1 5 a0).bind fun x24 =>
  (aMkA D h23 100 (64 : Int32) (.int 0)).bind fun h25 =>
  (aIs h25 15 x24).bind fun _ =>
  bnd2 (fJ2_add D h25 x24 (some h23.1)) fun x27 h28 =>
  (gR h28 1 4 a0).bind fun x29 =>
  (aIs h28 15 x29).bind fun _ =>
  (fJ2_size D h28 x29).bind fun x31 =>
  some ((x31 - (1 : Int32)), h28)))
theorem vX2_addPanel {h : aH} {a0 : Option Nat} {a1 : Int32} {q : Int32} {g : aH} (X : aX p l R s m meth c D n0 s0 yX2_addPanel cX2_addPanel 7 152 2 (some .int) h0) (hf : fX2_addPanel D h a0 a1 = some (q, g)) : V p l e R s m args below meth c D n0 s0 (aEnd D below args s h0 (.inr (some (.int q)), g)) h 0 [(0, false, va_rf a0), (1, false, .int a1)] [] := by
  have C := X.1
  unfold fX2_addPanel at hf
  refine v_aload_n (pc := 0) (j := 0) C dX2_addPanel_0 rfl rfl ?_
  refine v_iconst (pc := 1) (v := (0 : Int32)) C dX2_addPanel_1 rfl ?_
  obtain ⟨h1, eh1, hf⟩ := oB hf
  refine v_putF (pc := 2) C lk_X2_69 tyX2 tyX2_ok nmX2 (tyX2_ok 0 (by decide)) rfl rfl eh1 dX2_addPanel_2 ?_
  refine v_iload_n (pc := 5) (j := 1) C dX2_addPanel_5 rfl rfl ?_
  refine v_iconst (pc := 6) (v := (0 : Int32)) C dX2_addPanel_6 rfl ?_
  refine v_sipush (pc := 7) (v := (1000 : Int32)) C dX2_addPanel_7 rfl ?_
  obtain ⟨x3, ex3, hf⟩ := oB hf
  refine v_call (pc := 10) (d_S (pc := 10) C (As := [.int a1, .int (0 : Int32), .int (1000 : Int32)]) (rest := []) q2495 q2496 yk_X2_in rfl (by decide) (by decide) (Nat.le_trans aw_0 (by decide)) rfl (mX2_in C.st ex3) dX2_addPanel_10) ?_
  refine v_if_ne (pc := 13) (tgt := 22) C dX2_addPanel_13 rfl (fun hc => ?_) (fun hc => ?_)
  · rw [if_neg hc] at hf
    refine v_aload_n (pc := 22) (j := 0) C dX2_addPanel_22 rfl rfl ?_
    obtain ⟨x5, ex5, hf⟩ := oB hf
    refine v_getF (pc := 23) C lk_X2_16 (gR_eq ex5) dX2_addPanel_23 ?_
    obtain ⟨b6, eb6, hf⟩ := oB hf
    obtain ⟨rb6, _, kb6⟩ := aIs_eq eb6
    obtain ⟨x7, ex7, hf⟩ := oB hf
    refine v_call (pc := 26) (d_V (pc := 26) C (As := []) (rest := []) rb6 kb6 nt_15 q2502 yi_J2_size_java_util_ArrayList yk_J2_size rfl (by decide) (by decide) (Nat.le_trans aw_0 (by decide)) rfl (mJ2_size C.st ex7) dX2_addPanel_26) ?_
    refine v_bipush (pc := 29) (v := (6 : Int32)) C dX2_addPanel_29 rfl ?_
    refine v_icmp_ne (pc := 31) (tgt := 40) C dX2_addPanel_31 rfl (fun hc => ?_) (fun hc => ?_)
    · rw [if_neg hc] at hf
      refine v_aload_n (pc := 40) (j := 0) C dX2_addPanel_40 rfl rfl ?_
      obtain ⟨x9, ex9, hf⟩ := oB hf
      refine v_getF (pc := 41) C lk_X2_16 (gR_eq ex9) dX2_addPanel_41 ?_
      refine v_bipush (pc := 44) (v := (10 : Int32)) C dX2_addPanel_44 rfl ?_
      obtain ⟨h10, eh10, hf⟩ := oB hf
      refine v_newarray (pc := 46) (t := 100) (v := .int 0) C q169 rfl rfl (by decide) (by decide) rfl eh10 dX2_addPanel_46 ?_
      refine v_dup (pc := 48) C dX2_addPanel_48 (va_rfc _) ?_
      refine v_iconst (pc := 49) (v := (0 : Int32)) C dX2_addPanel_49 rfl ?_
      refine v_iload_n (pc := 50) (j := 1) C dX2_addPanel_50 rfl rfl ?_
      obtain ⟨h11, eh11, hf⟩ := oB hf
      refine v_iastore (pc := 51) C eh11 dX2_addPanel_51 ?_
      refine v_dup (pc := 52) C dX2_addPanel_52 (va_rfc _) ?_
      refine v_iconst (pc := 53) (v := (1 : Int32)) C dX2_addPanel_53 rfl ?_
      refine v_iconst (pc := 54) (v := (0 : Int32)) C dX2_addPanel_54 rfl ?_
      obtain ⟨h12, eh12, hf⟩ := oB hf
      refine v_iastore (pc := 55) C eh12 dX2_addPanel_55 ?_
      refine v_dup (pc := 56) C dX2_addPanel_56 (va_rfc _) ?_
      refine v_iconst (pc := 57) (v := (2 : Int32)) C dX2_addPanel_57 rfl ?_
      refine v_iconst (pc := 58) (v := (0 : Int32)) C dX2_addPanel_58 rfl ?_
      obtain ⟨h13, eh13, hf⟩ := oB hf
      refine v_iastore (pc := 59) C eh13 dX2_addPanel_59 ?_
      refine v_dup (pc := 60) C dX2_addPanel_60 (va_rfc _) ?_
      refine v_iconst (pc := 61) (v := (3 : Int32)) C dX2_addPanel_61 rfl ?_
      refine v_iconst (pc := 62) (v := (0 : Int32)) C dX2_addPanel_62 rfl ?_
      obtain ⟨h14, eh14, hf⟩ := oB hf
      refine v_iastore (pc := 63) C eh14 dX2_addPanel_63 ?_
      refine v_dup (pc := 64) C dX2_addPanel_64 (va_rfc _) ?_
      refine v_iconst (pc := 65) (v := (4 : Int32)) C dX2_addPanel_65 rfl ?_
      refine v_iconst (pc := 66) (v := (0 : Int32)) C dX2_addPanel_66 rfl ?_
      obtain ⟨h15, eh15, hf⟩ := oB hf
      refine v_iastore (pc := 67) C eh15 dX2_addPanel_67 ?_
      refine v_dup (pc := 68) C dX2_addPanel_68 (va_rfc _) ?_
      refine v_iconst (pc := 69) (v := (5 : Int32)) C dX2_addPanel_69 rfl ?_
      refine v_iconst (pc := 70) (v := (0 : Int32)) C dX2_addPanel_70 rfl ?_
      obtain ⟨h16, eh16, hf⟩ := oB hf
      refine v_iastore (pc := 71) C eh16 dX2_addPanel_71 ?_
      refine v_dup (pc := 72) C dX2_addPanel_72 (va_rfc _) ?_
      refine v_bipush (pc := 73) (v := (6 : Int32)) C dX2_addPanel_73 rfl ?_
      refine v_sipush (pc := 75) (v := (1000 : Int32)) C dX2_addPanel_75 rfl ?_
      obtain ⟨h17, eh17, hf⟩ := oB hf
      refine v_iastore (pc := 78) C eh17 dX2_addPanel_78 ?_
      refine v_dup (pc := 79) C dX2_addPanel_79 (va_rfc _) ?_
      refine v_bipush (pc := 80) (v := (7 : Int32)) C dX2_addPanel_80 rfl ?_
      refine v_bipush (pc := 82) (v := (100 : Int32)) C dX2_addPanel_82 rfl ?_
      obtain ⟨h18, eh18, hf⟩ := oB hf
      refine v_iastore (pc := 84) C eh18 dX2_addPanel_84 ?_
      refine v_dup (pc := 85) C dX2_addPanel_85 (va_rfc _) ?_
      refine v_bipush (pc := 86) (v := (8 : Int32)) C dX2_addPanel_86 rfl ?_
      refine v_iconst (pc := 88) (v := (0 : Int32)) C dX2_addPanel_88 rfl ?_
      obtain ⟨h19, eh19, hf⟩ := oB hf
      refine v_iastore (pc := 89) C eh19 dX2_addPanel_89 ?_
      refine v_dup (pc := 90) C dX2_addPanel_90 (va_rfc _) ?_
      refine v_bipush (pc := 91) (v := (9 : Int32)) C dX2_addPanel_91 rfl ?_
      refine v_iconst (pc := 93) (v := (0 : Int32)) C dX2_addPanel_93 rfl ?_
      obtain ⟨h20, eh20, hf⟩ := oB hf
      refine v_iastore (pc := 94) C eh20 dX2_addPanel_94 ?_
      obtain ⟨b21, eb21, hf⟩ := oB hf
      obtain ⟨rb21, _, kb21⟩ := aIs_eq eb21
      obtain ⟨x22, h23, ex22, hf⟩ := bnd2_eq hf
      refine v_call (pc := 95) (d_V (pc := 95) C (As := [va_rf (some h1.1)]) (rest := []) rb21 kb21 nt_15 q2503 yi_J2_add_java_util_ArrayList yk_J2_add rfl (by decide) (by decide) (Nat.le_trans aw_0 (by decide)) rfl (mJ2_add C.st ex22) dX2_addPanel_95) ?_
      refine v_pop (pc := 98) C dX2_addPanel_98 rfl ?_
      refine v_aload_n (pc := 99) (j := 0) C dX2_addPanel_99 rfl rfl ?_
      obtain ⟨x24, ex24, hf⟩ := oB hf
      refine v_getF (pc := 100) C lk_X2_20 (gR_eq ex24) dX2_addPanel_100 ?_
      refine v_bipush (pc := 103) (v := (64 : Int32)) C dX2_addPanel_103 rfl ?_
      obtain ⟨h25, eh25, hf⟩ := oB hf
      refine v_newarray (pc := 105) (t := 100) (v := .int 0) C q169 rfl rfl (by decide) (by decide) rfl eh25 dX2_addPanel_105 ?_
      obtain ⟨b26, eb26, hf⟩ := oB hf
      obtain ⟨rb26, _, kb26⟩ := aIs_eq eb26
      obtain ⟨x27, h28, ex27, hf⟩ := bnd2_eq hf
      refine v_call (pc := 107) (d_V (pc := 107) C (As := [va_rf (some h23.1)]) (rest := []) rb26 kb26 nt_15 q2503 yi_J2_add_java_util_ArrayList yk_J2_add rfl (by decide) (by decide) (Nat.le_trans aw_0 (by decide)) rfl (mJ2_add C.st ex27) dX2_addPanel_107) ?_
      refine v_pop (pc := 110) C dX2_addPanel_110 rfl ?_
      refine v_aload_n (pc := 111) (j := 0) C dX2_addPanel_111 rfl rfl ?_
      obtain ⟨x29, ex29, hf⟩ := oB hf
      refine v_getF (pc := 112) C lk_X2_16 (gR_eq ex29) dX2_addPanel_112 ?_
      obtain ⟨b30, eb30, hf⟩ := oB hf
      obtain ⟨rb30, _, kb30⟩ := aIs_eq eb30
      obtain ⟨x31, ex31, hf⟩ := oB hf
      refine v_call (pc := 115) (d_V (pc := 115) C (As := []) (rest := []) rb30 kb30 nt_15 q2502 yi_J2_size_java_util_ArrayList yk_J2_size rfl (by decide) (by decide) (Nat.le_trans aw_0 (by decide)) rfl (mJ2_size C.st ex31) dX2_addPanel_115) ?_
      refine v_iconst (pc := 118) (v := (1 : Int32)) C dX2_addPanel_118 rfl ?_
      refine v_isub (pc := 119) C dX2_addPanel_119 ?_
      cases hf
      exact v_ireturn (pc := 120) C X.2.1 X.2.2.1 X.2.2.2.1 rfl dX2_addPanel_120
    · rw [if_pos (Decidable.of_not_not hc)] at hf
      refine v_aload_n (pc := 34) (j := 0) C dX2_addPanel_34 rfl rfl ?_
      refine v_iconst (pc := 35) (v := (2 : Int32)) C dX2_addPanel_35 rfl ?_
      obtain ⟨b33, eb33, hf⟩ := oB hf
      obtain ⟨rb33, _, kb33⟩ := aIs_eq eb33
      obtain ⟨x34, h35, ex34, hf⟩ := bnd2_eq hf
      refine v_call (pc := 36) (d_V (pc := 36) C (As := [.int (2 : Int32)]) (rest := []) rb33 kb33 nt_1 q2498 yi_X2_err_FigureSurveyModel yk_X2_err rfl (by decide) (by decide) (Nat.le_trans aw_0 (by decide)) rfl (mX2_err C.st ex34) dX2_addPanel_36) ?_
      cases hf
      exact v_ireturn (pc := 39) C X.2.1 X.2.2.1 X.2.2.2.1 rfl dX2_addPanel_39
  · rw [if_pos (Decidable.of_not_not hc)] at hf
    refine v_aload_n (pc := 16) (j := 0) C dX2_addPanel_16 rfl rfl ?_
    refine v_iconst (pc := 17) (v := (1 : Int32)) C dX2_addPanel_17 rfl ?_
    obtain ⟨b36, eb36, hf⟩ := oB hf
    obtain ⟨rb36, _, kb36⟩ := aIs_eq eb36
    obtain ⟨x37, h38, ex37, hf⟩ := bnd2_eq hf
    refine v_call (pc := 18) (d_V (pc := 18) C (As := [.int (1 : Int32)]) (rest := []) rb36 kb36 nt_1 q2498 yi_X2_err_FigureSurveyModel yk_X2_err rfl (by decide) (by decide) (Nat.le_trans aw_0 (by decide)) rfl (mX2_err C.st ex37) dX2_addPanel_18) ?_
    cases hf
    exact v_ireturn (pc := 21) C X.2.1 X.2.2.1 X.2.2.2.1 rfl dX2_addPanel_21
theorem mX2_addPanel {l : Launch} {D : aD} {h : aH} {a0 : Option Nat} {a1 : Int32} {q : Int32} {g : aH} (hst : l.stackTraces = false) (hf : fX2_addPanel D h a0 a1 = some (q, g)) : aM l D yX2_addPanel cX2_addPanel 2 (some .int) 7 152 [va_rf a0, .int a1] h (.inr (some (.int q)), g) :=
  aM.ofX [(false, va_rf a0), (false, .int a1)] rfl (ap_r (ap_c rfl ap_0)) (by decide +kernel) hst (al_of (aw_r (aw_i aw_0)) (by decide)) fun p e s m args below meth c X => V.sub (lv' := [(0, false, va_rf a0), (1, false, .int a1)]) [0, 1] rfl (vX2_addPanel X hf)
def fX2_noPanel (D : aD) (h : aH) (a0 : Option Nat) (a1 : Int32) : Option (Int32) :=
  (gR h 1 4 a0).bind fun x1 =>
  (aIs h 15 x1).bind fun _ =>
  (fJ2_size D h x1).bind fun x3 =>
  (fX2_in D h a1 (0 : Int32) (x3 - (1 : Int32))).bind fun x6 =>
  if x6 = 0 then
  (some (1 : Int32))
  else
  (some (0 : Int32))
theorem vX2_noPanel {h : aH} {a0 : Option Nat} {a1 : Int32} {q : Int32} (X : aX p l R s m meth c D n0 s0 yX2_noPanel cX2_noPanel 1 22 2 (some .boolean) h0) (hf : fX2_noPanel D h a0 a1 = some q) : V p l e R s m args below meth c D n0 s0 (aEnd D below args s h0 (.inr (some (.int q)), h)) h 0 [(0, false, va_rf a0), (1, false, .int a1)] [] := by
  have C := X.1
  unfold fX2_noPanel at hf
  refine v_iload_n (pc := 0) (j := 1) C dX2_noPanel_0 rfl rfl ?_
  refine v_iconst (pc := 1) (v := (0 : Int32)) C dX2_noPanel_1 rfl ?_
  refine v_aload_n (pc := 2) (j := 0) C dX2_noPanel_2 rfl rfl ?_
  obtain ⟨x1, ex1, hf⟩ := oB hf
  refine v_getF (pc := 3) C lk_X2_16 (gR_eq ex1) dX2_noPanel_3 ?_
  obtain ⟨b2, eb2, hf⟩ := oB hf
  obtain ⟨rb2, _, kb2⟩ := aIs_eq eb2
  obtain ⟨x3, ex3, hf⟩ := oB hf
  refine v_call (pc := 6) (d_V (pc := 6) C (As := []) (rest := [.int (0 : Int32), .int a1]) rb2 kb2 nt_15 q2502 yi_J2_size_java_util_ArrayList yk_J2_size rfl (by decide) (by decide) (Nat.le_trans (aw_i (aw_i aw_0)) (by decide)) rfl (mJ2_size C.st ex3) dX2_noPanel_6) ?_
  refine v_iconst (pc := 9) (v := (1 : Int32)) C dX2_noPanel_9 rfl ?_
  refine v_isub (pc := 10) C dX2_noPanel_10 ?_
  obtain ⟨x6, ex6, hf⟩ := oB hf
  refine v_call (pc := 11) (d_S (pc := 11) C (As := [.int a1, .int (0 : Int32), .int (x3 - (1 : Int32))]) (rest := []) q2495 q2496 yk_X2_in rfl (by decide) (by decide) (Nat.le_trans aw_0 (by decide)) rfl (mX2_in C.st ex6) dX2_noPanel_11) ?_
  refine v_if_ne (pc := 14) (tgt := 21) C dX2_noPanel_14 rfl (fun hc => ?_) (fun hc => ?_)
  · rw [if_neg hc] at hf
    refine v_iconst (pc := 21) (v := (0 : Int32)) C dX2_noPanel_21 rfl ?_
    cases hf
    exact v_zreturn (pc := 22) C X.2.1 X.2.2.1 X.2.2.2.1 (by decide) rfl dX2_noPanel_22
  · rw [if_pos (Decidable.of_not_not hc)] at hf
    refine v_iconst (pc := 17) (v := (1 : Int32)) C dX2_noPanel_17 rfl ?_
    refine v_goto (pc := 18) (tgt := 22) C dX2_noPanel_18 rfl ?_
    cases hf
    exact v_zreturn (pc := 22) C X.2.1 X.2.2.1 X.2.2.2.1 (by decide) rfl dX2_noPanel_22
theorem mX2_noPanel {l : Launch} {D : aD} {h : aH} {a0 : Option Nat} {a1 : Int32} {q : Int32} (hst : l.stackTraces = false) (hf : fX2_noPanel D h a0 a1 = some q) : aM l D yX2_noPanel cX2_noPanel 2 (some .boolean) 1 22 [va_rf a0, .int a1] h (.inr (some (.int q)), h) :=
  aM.ofX [(false, va_rf a0), (false, .int a1)] rfl (ap_r (ap_c rfl ap_0)) (by decide +kernel) hst (al_of (aw_r (aw_i aw_0)) (by decide)) fun p e s m args below meth c X => V.sub (lv' := [(0, false, va_rf a0), (1, false, .int a1)]) [0, 1] rfl (vX2_noPanel X hf)
def fJ17_checkIndex_p9 (D : aD) (h : aH) (a0 : Int32) (a1 : Int32) (a2 : Option Nat) : Option (Int32) :=
  none
theorem vJ17_checkIndex_p9 {h : aH} {a0 : Int32} {a1 : Int32} {a2 : Option Nat} {q : Int32} (X : aX p l R s m meth c D n0 s0 yJ17_checkIndex cJ17_checkIndex 0 0 3 (some .int) h0) (hf : fJ17_checkIndex_p9 D h a0 a1 a2 = some q) : V p l e R s m args below meth c D n0 s0 (aEnd D below args s h0 (.inr (some (.int q)), h)) h 9 [(0, false, .int a0), (1, false, .int a1), (2, false, va_rf a2)] [] := by
  have C := X.1
  unfold fJ17_checkIndex_p9 at hf
  refine v_aload_n (pc := 9) (j := 2) C dJ17_checkIndex_9 rfl rfl ?_
  refine v_iload_n (pc := 10) (j := 0) C dJ17_checkIndex_10 rfl rfl ?_
  refine v_iload_n (pc := 11) (j := 1) C dJ17_checkIndex_11 rfl rfl ?_
  cases hf
def fJ17_checkIndex (D : aD) (h : aH) (a0 : Int32) (a1 : Int32) (a2 : Option Nat) : Option (Int32) :=
  if a0 < 0 then
  (fJ17_checkIndex_p9 D h a0 a1 a2)
  else
  (if a0 < a1 then
  (some a0)
  else
  (fJ17_checkIndex_p9 D h a0 a1 a2))
theorem vJ17_checkIndex {h : aH} {a0 : Int32} {a1 : Int32} {a2 : Option Nat} {q : Int32} (X : aX p l R s m meth c D n0 s0 yJ17_checkIndex cJ17_checkIndex 0 0 3 (some .int) h0) (hf : fJ17_checkIndex D h a0 a1 a2 = some q) : V p l e R s m args below meth c D n0 s0 (aEnd D below args s h0 (.inr (some (.int q)), h)) h 0 [(0, false, .int a0), (1, false, .int a1), (2, false, va_rf a2)] [] := by
  have C := X.1
  unfold fJ17_checkIndex at hf
  refine v_iload_n (pc := 0) (j := 0) C dJ17_checkIndex_0 rfl rfl ?_
  refine v_if_lt (pc := 1) (tgt := 9) C dJ17_checkIndex_1 rfl (fun hc => ?_) (fun hc => ?_)
  · rw [if_pos hc] at hf
    exact V.sub [0, 1, 2] rfl (vJ17_checkIndex_p9 X hf)
  · rw [if_neg hc] at hf
    refine v_iload_n (pc := 4) (j := 0) C dJ17_checkIndex_4 rfl rfl ?_
    refine v_iload_n (pc := 5) (j := 1) C dJ17_checkIndex_5 rfl rfl ?_
    refine v_icmp_lt (pc := 6) (tgt := 16) C dJ17_checkIndex_6 rfl (fun hc => ?_) (fun hc => ?_)
    · rw [if_pos hc] at hf
      refine v_iload_n (pc := 16) (j := 0) C dJ17_checkIndex_16 rfl rfl ?_
      cases hf
      exact v_ireturn (pc := 17) C X.2.1 X.2.2.1 X.2.2.2.1 rfl dJ17_checkIndex_17
    · rw [if_neg hc] at hf
      exact V.sub [0, 1, 2] rfl (vJ17_checkIndex_p9 X hf)
theorem mJ17_checkIndex {l : Launch} {D : aD} {h : aH} {a0 : Int32} {a1 : Int32} {a2 : Option Nat} {q : Int32} (hst : l.stackTraces = false) (hf : fJ17_checkIndex D h a0 a1 a2 = some q) : aM l D yJ17_checkIndex cJ17_checkIndex 3 (some .int) 0 0 [.int a0, .int a1, va_rf a2] h (.inr (some (.int q)), h) :=
  aM.ofX [(false, .int a0), (false, .int a1), (false, va_rf a2)] rfl (ap_c rfl (ap_c rfl (ap_r ap_0))) (by decide +kernel) hst (al_of (aw_i (aw_i (aw_r aw_0))) (by decide)) fun p e s m args below meth c X => V.sub (lv' := [(0, false, .int a0), (1, false, .int a1), (2, false, va_rf a2)]) [0, 1, 2] rfl (vJ17_checkIndex X hf)
def fJ16_checkIndex (D : aD) (h : aH) (a0 : Int32) (a1 : Int32) : Option (Int32) :=
  (fJ17_checkIndex D h a0 a1 none).bind fun x2 =>
  some x2
theorem vJ16_checkIndex {h : aH} {a0 : Int32} {a1 : Int32} {q : Int32} (X : aX p l R s m meth c D n0 s0 yJ16_checkIndex cJ16_checkIndex 1 22 2 (some .int) h0) (hf : fJ16_checkIndex D h a0 a1 = some q) : V p l e R s m args below meth c D n0 s0 (aEnd D below args s h0 (.inr (some (.int q)), h)) h 0 [(0, false, .int a0), (1, false, .int a1)] [] := by
  have C := X.1
  unfold fJ16_checkIndex at hf
  refine v_iload_n (pc := 0) (j := 0) C dJ16_checkIndex_0 rfl rfl ?_
  refine v_iload_n (pc := 1) (j := 1) C dJ16_checkIndex_1 rfl rfl ?_
  refine v_null (pc := 2) C dJ16_checkIndex_2 ?_
  obtain ⟨x2, ex2, hf⟩ := oB hf
  refine v_call (pc := 3) (d_S (pc := 3) C (As := [.int a0, .int a1, va_rf none]) (rest := []) q386 q387 yk_J17_checkIndex rfl (by decide) (by decide) (Nat.le_trans aw_0 (by decide)) rfl (mJ17_checkIndex C.st ex2) dJ16_checkIndex_3) ?_
  cases hf
  exact v_ireturn (pc := 6) C X.2.1 X.2.2.1 X.2.2.2.1 rfl dJ16_checkIndex_6
theorem mJ16_checkIndex {l : Launch} {D : aD} {h : aH} {a0 : Int32} {a1 : Int32} {q : Int32} (hst : l.stackTraces = false) (hf : fJ16_checkIndex D h a0 a1 = some q) : aM l D yJ16_checkIndex cJ16_checkIndex 2 (some .int) 1 22 [.int a0, .int a1] h (.inr (some (.int q)), h) :=
  aM.ofX [(false, .int a0), (false, .int a1)] rfl (ap_c rfl (ap_c rfl ap_0)) (by decide +kernel) hst (al_of (aw_i (aw_i aw_0)) (by decide)) fun p e s m args below meth c X => V.sub (lv' := [(0, false, .int a0), (1, false, .int a1)]) [0, 1] rfl (vJ16_checkIndex X hf)
def fJ2_elementData (D : aD) (h : aH) (a0 : Option Nat) (a1 : Int32) : Option (Option Nat) :=
  (gR h 15 1 a0).bind fun x1 =>
  (eR h x1 a1).bind fun x2 =>
  some x2
theorem vJ2_elementData {h : aH} {a0 : Option Nat} {a1 : Int32} {q : Option Nat} (X : aX p l R s m meth c D n0 s0 yJ2_elementData cJ2_elementData 0 0 2 (some (.object "java/lang/Object")) h0) (hf : fJ2_elementData D h a0 a1 = some q) : V p l e R s m args below meth c D n0 s0 (aEnd D below args s h0 (.inr (some (va_rf q)), h)) h 0 [(0, false, va_rf a0), (1, false, .int a1)] [] := by
  have C := X.1
  unfold fJ2_elementData at hf
  refine v_aload_n (pc := 0) (j := 0) C dJ2_elementData_0 rfl rfl ?_
  obtain ⟨x1, ex1, hf⟩ := oB hf
  refine v_getF (pc := 1) C lk_J2_9 (gR_eq ex1) dJ2_elementData_1 ?_
  refine v_iload_n (pc := 4) (j := 1) C dJ2_elementData_4 rfl rfl ?_
  obtain ⟨x2, ex2, hf⟩ := oB hf
  refine v_aaload (pc := 5) C ex2 dJ2_elementData_5 ?_
  cases hf
  exact v_areturn (pc := 6) C X.2.1 X.2.2.1 X.2.2.2.1 (Or.inl ⟨_, rfl⟩) rfl dJ2_elementData_6
theorem mJ2_elementData {l : Launch} {D : aD} {h : aH} {a0 : Option Nat} {a1 : Int32} {q : Option Nat} (hst : l.stackTraces = false) (hf : fJ2_elementData D h a0 a1 = some q) : aM l D yJ2_elementData cJ2_elementData 2 (some (.object "java/lang/Object")) 0 0 [va_rf a0, .int a1] h (.inr (some (va_rf q)), h) :=
  aM.ofX [(false, va_rf a0), (false, .int a1)] rfl (ap_r (ap_c rfl ap_0)) (by decide +kernel) hst (al_of (aw_r (aw_i aw_0)) (by decide)) fun p e s m args below meth c X => V.sub (lv' := [(0, false, va_rf a0), (1, false, .int a1)]) [0, 1] rfl (vJ2_elementData X hf)
def fJ2_get (D : aD) (h : aH) (a0 : Option Nat) (a1 : Int32) : Option (Option Nat) :=
  (gI h 15 2 a0).bind fun x1 =>
  (fJ16_checkIndex D h a1 x1).bind fun x3 =>
  (aIs h 15 a0).bind fun _ =>
  (fJ2_elementData D h a0 a1).bind fun x6 =>
  some x6
theorem vJ2_get {h : aH} {a0 : Option Nat} {a1 : Int32} {q : Option Nat} (X : aX p l R s m meth c D n0 s0 yJ2_get cJ2_get 2 43 2 (some (.object "java/lang/Object")) h0) (hf : fJ2_get D h a0 a1 = some q) : V p l e R s m args below meth c D n0 s0 (aEnd D below args s h0 (.inr (some (va_rf q)), h)) h 0 [(0, false, va_rf a0), (1, false, .int a1)] [] := by
  have C := X.1
  unfold fJ2_get at hf
  refine v_iload_n (pc := 0) (j := 1) C dJ2_get_0 rfl rfl ?_
  refine v_aload_n (pc := 1) (j := 0) C dJ2_get_1 rfl rfl ?_
  obtain ⟨x1, ex1, hf⟩ := oB hf
  refine v_getF (pc := 2) C lk_J2_48 (gI_eq ex1) dJ2_get_2 ?_
  obtain ⟨x3, ex3, hf⟩ := oB hf
  refine v_call (pc := 5) (d_S (pc := 5) C (As := [.int a1, .int x1]) (rest := []) q383 q384 yk_J16_checkIndex rfl (by decide) (by decide) (Nat.le_trans aw_0 (by decide)) rfl (mJ16_checkIndex C.st ex3) dJ2_get_5) ?_
  refine v_pop (pc := 8) C dJ2_get_8 rfl ?_
  refine v_aload_n (pc := 9) (j := 0) C dJ2_get_9 rfl rfl ?_
  refine v_iload_n (pc := 10) (j := 1) C dJ2_get_10 rfl rfl ?_
  obtain ⟨b5, eb5, hf⟩ := oB hf
  obtain ⟨rb5, _, kb5⟩ := aIs_eq eb5
  obtain ⟨x6, ex6, hf⟩ := oB hf
  refine v_call (pc := 11) (d_V (pc := 11) C (As := [.int a1]) (rest := []) rb5 kb5 nt_15 q389 yi_J2_elementData_java_util_ArrayList yk_J2_elementData rfl (by decide) (by decide) (Nat.le_trans aw_0 (by decide)) rfl (mJ2_elementData C.st ex6) dJ2_get_11) ?_
  cases hf
  exact v_areturn (pc := 14) C X.2.1 X.2.2.1 X.2.2.2.1 (Or.inl ⟨_, rfl⟩) rfl dJ2_get_14
theorem mJ2_get {l : Launch} {D : aD} {h : aH} {a0 : Option Nat} {a1 : Int32} {q : Option Nat} (hst : l.stackTraces = false) (hf : fJ2_get D h a0 a1 = some q) : aM l D yJ2_get cJ2_get 2 (some (.object "java/lang/Object")) 2 43 [va_rf a0, .int a1] h (.inr (some (va_rf q)), h) :=
  aM.ofX [(false, va_rf a0), (false, .int a1)] rfl (ap_r (ap_c rfl ap_0)) (by decide +kernel) hst (al_of (aw_r (aw_i aw_0)) (by decide)) fun p e s m args below meth c X => V.sub (lv' := [(0, false, va_rf a0), (1, false, .int a1)]) [0, 1] rfl (vJ2_get X hf)
def fX2_isUnder (D : aD) (h : aH) (a0 : Option Nat) (a1 : Int32) : Option (Int32) :=
  (gI h 1 2 a0).bind fun x1 =>
  if x1 = (-1 : Int32) then
  (some (0 : Int32))
  else
  ((gR h 1 4 a0).bind fun x2 =>
  (aIs h 15 x2).bind fun _ =>
  (fJ2_get D h x2 a1).bind fun x4 =>
  (aCast h [100] x4).bind fun _ =>
  (eI h x4 (0 : Int32)).bind fun x7 =>
  (gI h 1 2 a0).bind fun x8 =>
  if x8 ≤ x7 then
  (some (0 : Int32))
  else
  (some (1 : Int32)))
theorem vX2_isUnder {h : aH} {a0 : Option Nat} {a1 : Int32} {q : Int32} (X : aX p l R s m meth c D n0 s0 yX2_isUnder cX2_isUnder 3 64 2 (some .boolean) h0) (hf : fX2_isUnder D h a0 a1 = some q) : V p l e R s m args below meth c D n0 s0 (aEnd D below args s h0 (.inr (some (.int q)), h)) h 0 [(0, false, va_rf a0), (1, false, .int a1)] [] := by
  have C := X.1
  unfold fX2_isUnder at hf
  refine v_aload_n (pc := 0) (j := 0) C dX2_isUnder_0 rfl rfl ?_
  obtain ⟨x1, ex1, hf⟩ := oB hf
  refine v_getF (pc := 1) C lk_X2_9 (gI_eq ex1) dX2_isUnder_1 ?_
  refine v_iconst (pc := 4) (v := (-1 : Int32)) C dX2_isUnder_4 rfl ?_
  refine v_icmp_eq (pc := 5) (tgt := 32) C dX2_isUnder_5 rfl (fun hc => ?_) (fun hc => ?_)
  · rw [if_pos hc] at hf
    refine v_iconst (pc := 32) (v := (0 : Int32)) C dX2_isUnder_32 rfl ?_
    cases hf
    exact v_zreturn (pc := 33) C X.2.1 X.2.2.1 X.2.2.2.1 (by decide) rfl dX2_isUnder_33
  · rw [if_neg hc] at hf
    refine v_aload_n (pc := 8) (j := 0) C dX2_isUnder_8 rfl rfl ?_
    obtain ⟨x2, ex2, hf⟩ := oB hf
    refine v_getF (pc := 9) C lk_X2_16 (gR_eq ex2) dX2_isUnder_9 ?_
    refine v_iload_n (pc := 12) (j := 1) C dX2_isUnder_12 rfl rfl ?_
    obtain ⟨b3, eb3, hf⟩ := oB hf
    obtain ⟨rb3, _, kb3⟩ := aIs_eq eb3
    obtain ⟨x4, ex4, hf⟩ := oB hf
    refine v_call (pc := 13) (d_V (pc := 13) C (As := [.int a1]) (rest := []) rb3 kb3 nt_15 q2520 yi_J2_get_java_util_ArrayList yk_J2_get rfl (by decide) (by decide) (Nat.le_trans aw_0 (by decide)) rfl (mJ2_get C.st ex4) dX2_isUnder_13) ?_
    obtain ⟨_, e6, hf⟩ := oB hf
    refine v_cast (pc := 16) C q2521 ct__I e6 dX2_isUnder_16 ?_
    refine v_iconst (pc := 19) (v := (0 : Int32)) C dX2_isUnder_19 rfl ?_
    obtain ⟨x7, ex7, hf⟩ := oB hf
    refine v_iaload (pc := 20) C ex7 dX2_isUnder_20 ?_
    refine v_aload_n (pc := 21) (j := 0) C dX2_isUnder_21 rfl rfl ?_
    obtain ⟨x8, ex8, hf⟩ := oB hf
    refine v_getF (pc := 22) C lk_X2_9 (gI_eq ex8) dX2_isUnder_22 ?_
    refine v_icmp_ge (pc := 25) (tgt := 32) C dX2_isUnder_25 rfl (fun hc => ?_) (fun hc => ?_)
    · rw [if_pos hc] at hf
      refine v_iconst (pc := 32) (v := (0 : Int32)) C dX2_isUnder_32 rfl ?_
      cases hf
      exact v_zreturn (pc := 33) C X.2.1 X.2.2.1 X.2.2.2.1 (by decide) rfl dX2_isUnder_33
    · rw [if_neg hc] at hf
      refine v_iconst (pc := 28) (v := (1 : Int32)) C dX2_isUnder_28 rfl ?_
      refine v_goto (pc := 29) (tgt := 33) C dX2_isUnder_29 rfl ?_
      cases hf
      exact v_zreturn (pc := 33) C X.2.1 X.2.2.1 X.2.2.2.1 (by decide) rfl dX2_isUnder_33
theorem mX2_isUnder {l : Launch} {D : aD} {h : aH} {a0 : Option Nat} {a1 : Int32} {q : Int32} (hst : l.stackTraces = false) (hf : fX2_isUnder D h a0 a1 = some q) : aM l D yX2_isUnder cX2_isUnder 2 (some .boolean) 3 64 [va_rf a0, .int a1] h (.inr (some (.int q)), h) :=
  aM.ofX [(false, va_rf a0), (false, .int a1)] rfl (ap_r (ap_c rfl ap_0)) (by decide +kernel) hst (al_of (aw_r (aw_i aw_0)) (by decide)) fun p e s m args below meth c X => V.sub (lv' := [(0, false, va_rf a0), (1, false, .int a1)]) [0, 1] rfl (vX2_isUnder X hf)
def fX2_drowned (D : aD) (h : aH) (a0 : Option Nat) (a1 : Int32) : Option (Int32) :=
  (aIs h 1 a0).bind fun _ =>
  (fX2_isUnder D h a0 a1).bind fun x2 =>
  if x2 = 0 then
  (some (0 : Int32))
  else
  ((gI h 1 1 a0).bind fun x4 =>
  (gI h 1 3 a0).bind fun x5 =>
  if x4 < x5 then
  (some (0 : Int32))
  else
  (some (1 : Int32)))
theorem vX2_drowned {h : aH} {a0 : Option Nat} {a1 : Int32} {q : Int32} (X : aX p l R s m meth c D n0 s0 yX2_drowned cX2_drowned 4 85 2 (some .boolean) h0) (hf : fX2_drowned D h a0 a1 = some q) : V p l e R s m args below meth c D n0 s0 (aEnd D below args s h0 (.inr (some (.int q)), h)) h 0 [(0, false, va_rf a0), (1, false, .int a1)] [] := by
  have C := X.1
  unfold fX2_drowned at hf
  refine v_aload_n (pc := 0) (j := 0) C dX2_drowned_0 rfl rfl ?_
  refine v_iload_n (pc := 1) (j := 1) C dX2_drowned_1 rfl rfl ?_
  obtain ⟨b1, eb1, hf⟩ := oB hf
  obtain ⟨rb1, _, kb1⟩ := aIs_eq eb1
  obtain ⟨x2, ex2, hf⟩ := oB hf
  refine v_call (pc := 2) (d_V (pc := 2) C (As := [.int a1]) (rest := []) rb1 kb1 nt_1 q2516 yi_X2_isUnder_FigureSurveyModel yk_X2_isUnder rfl (by decide) (by decide) (Nat.le_trans aw_0 (by decide)) rfl (mX2_isUnder C.st ex2) dX2_drowned_2) ?_
  refine v_if_eq (pc := 5) (tgt := 23) C dX2_drowned_5 rfl (fun hc => ?_) (fun hc => ?_)
  · rw [if_pos hc] at hf
    refine v_iconst (pc := 23) (v := (0 : Int32)) C dX2_drowned_23 rfl ?_
    cases hf
    exact v_zreturn (pc := 24) C X.2.1 X.2.2.1 X.2.2.2.1 (by decide) rfl dX2_drowned_24
  · rw [if_neg hc] at hf
    refine v_aload_n (pc := 8) (j := 0) C dX2_drowned_8 rfl rfl ?_
    obtain ⟨x4, ex4, hf⟩ := oB hf
    refine v_getF (pc := 9) C lk_X2_89 (gI_eq ex4) dX2_drowned_9 ?_
    refine v_aload_n (pc := 12) (j := 0) C dX2_drowned_12 rfl rfl ?_
    obtain ⟨x5, ex5, hf⟩ := oB hf
    refine v_getF (pc := 13) C lk_X2_92 (gI_eq ex5) dX2_drowned_13 ?_
    refine v_icmp_lt (pc := 16) (tgt := 23) C dX2_drowned_16 rfl (fun hc => ?_) (fun hc => ?_)
    · rw [if_pos hc] at hf
      refine v_iconst (pc := 23) (v := (0 : Int32)) C dX2_drowned_23 rfl ?_
      cases hf
      exact v_zreturn (pc := 24) C X.2.1 X.2.2.1 X.2.2.2.1 (by decide) rfl dX2_drowned_24
    · rw [if_neg hc] at hf
      refine v_iconst (pc := 19) (v := (1 : Int32)) C dX2_drowned_19 rfl ?_
      refine v_goto (pc := 20) (tgt := 24) C dX2_drowned_20 rfl ?_
      cases hf
      exact v_zreturn (pc := 24) C X.2.1 X.2.2.1 X.2.2.2.1 (by decide) rfl dX2_drowned_24
theorem mX2_drowned {l : Launch} {D : aD} {h : aH} {a0 : Option Nat} {a1 : Int32} {q : Int32} (hst : l.stackTraces = false) (hf : fX2_drowned D h a0 a1 = some q) : aM l D yX2_drowned cX2_drowned 2 (some .boolean) 4 85 [va_rf a0, .int a1] h (.inr (some (.int q)), h) :=
  aM.ofX [(false, va_rf a0), (false, .int a1)] rfl (ap_r (ap_c rfl ap_0)) (by decide +kernel) hst (al_of (aw_r (aw_i aw_0)) (by decide)) fun p e s m args below meth c X => V.sub (lv' := [(0, false, va_rf a0), (1, false, .int a1)]) [0, 1] rfl (vX2_drowned X hf)
def fX2_setDepth_p39 (D : aD) (h : aH) (a0 : Option Nat) : Option (Int32 × aH) :=
  (aIs h 1 a0).bind fun _ =>
  bnd2 (fX2_err D h a0 (2 : Int32)) fun x2 h3 =>
  some (x2, h3)
theorem vX2_setDepth_p39 {h : aH} {a0 : Option Nat} {q : Int32} {g : aH} (X : aX p l R s m meth c D n0 s0 yX2_setDepth cX2_setDepth 5 106 5 (some .int) h0) (hf : fX2_setDepth_p39 D h a0 = some (q, g)) : V p l e R s m args below meth c D n0 s0 (aEnd D below args s h0 (.inr (some (.int q)), g)) h 39 [(0, false, va_rf a0)] [] := by
  have C := X.1
  unfold fX2_setDepth_p39 at hf
  refine v_aload_n (pc := 39) (j := 0) C dX2_setDepth_39 rfl rfl ?_
  refine v_iconst (pc := 40) (v := (2 : Int32)) C dX2_setDepth_40 rfl ?_
  obtain ⟨b1, eb1, hf⟩ := oB hf
  obtain ⟨rb1, _, kb1⟩ := aIs_eq eb1
  obtain ⟨x2, h3, ex2, hf⟩ := bnd2_eq hf
  refine v_call (pc := 41) (d_V (pc := 41) C (As := [.int (2 : Int32)]) (rest := []) rb1 kb1 nt_1 q2498 yi_X2_err_FigureSurveyModel yk_X2_err rfl (by decide) (by decide) (Nat.le_trans aw_0 (by decide)) rfl (mX2_err C.st ex2) dX2_setDepth_41) ?_
  cases hf
  exact v_ireturn (pc := 44) C X.2.1 X.2.2.1 X.2.2.2.1 rfl dX2_setDepth_44
def fX2_setDepth (D : aD) (h : aH) (a0 : Option Nat) (a1 : Int32) (a2 : Int32) (a3 : Int32) : Option (Int32 × aH) :=
  (pF D h 1 0 a0 (.int (0 : Int32))).bind fun h1 =>
  (aIs h1 1 a0).bind fun _ =>
  (fX2_noPanel D h1 a0 a1).bind fun x3 =>
  if x3 = 0 then
  ((fX2_in D h1 a2 (0 : Int32) (63 : Int32)).bind fun x6 =>
  if x6 = 0 then
  (fX2_setDepth_p39 D h1 a0)
  else
  ((fX2_in D h1 a3 (0 : Int32) (15 : Int32)).bind fun x9 =>
  if x9 = 0 then
  (fX2_setDepth_p39 D h1 a0)
  else
  ((aIs h1 1 a0).bind fun _ =>
  (fX2_drowned D h1 a0 a1).bind fun x12 =>
  if x12 = 0 then
  ((gR h1 1 5 a0).bind fun x14 =>
  (aIs h1 15 x14).bind fun _ =>
  (fJ2_get D h1 x14 a1).bind fun x16 =>
  (aCast h1 [100] x16).bind fun _ =>
  (eI h1 x16 a2).bind fun x19 =>
  (gR h1 1 5 a0).bind fun x20 =>
  (aIs h1 15 x20).bind fun _ =>
  (fJ2_get D h1 x20 a1).bind fun x22 =>
  (aCast h1 [100] x22).bind fun _ =>
  (sF D h1 100 x22 a2 (.int a3)).bind fun h25 =>
  some (x19, h25))
  else
  ((aIs h1 1 a0).bind fun _ =>
  bnd2 (fX2_err D h1 a0 (3 : Int32)) fun x27 h28 =>
  some (x27, h28)))))
  else
  ((aIs h1 1 a0).bind fun _ =>
  bnd2 (fX2_err D h1 a0 (1 : Int32)) fun x30 h31 =>
  some (x30, h31))
theorem vX2_setDepth {h : aH} {a0 : Option Nat} {a1 : Int32} {a2 : Int32} {a3 : Int32} {q : Int32} {g : aH} (X : aX p l R s m meth c D n0 s0 yX2_setDepth cX2_setDepth 5 106 5 (some .int) h0) (hf : fX2_setDepth D h a0 a1 a2 a3 = some (q, g)) : V p l e R s m args below meth c D n0 s0 (aEnd D below args s h0 (.inr (some (.int q)), g)) h 0 [(0, false, va_rf a0), (1, false, .int a1), (2, false, .int a2), (3, false, .int a3)] [] := by
  have C := X.1
  unfold fX2_setDepth at hf
  refine v_aload_n (pc := 0) (j := 0) C dX2_setDepth_0 rfl rfl ?_
  refine v_iconst (pc := 1) (v := (0 : Int32)) C dX2_setDepth_1 rfl ?_
  obtain ⟨h1, eh1, hf⟩ := oB hf
  refine v_putF (pc := 2) C lk_X2_69 tyX2 tyX2_ok nmX2 (tyX2_ok 0 (by decide)) rfl rfl eh1 dX2_setDepth_2 ?_
  refine v_aload_n (pc := 5) (j := 0) C dX2_setDepth_5 rfl rfl ?_
  refine v_iload_n (pc := 6) (j := 1) C dX2_setDepth_6 rfl rfl ?_
  obtain ⟨b2, eb2, hf⟩ := oB hf
  obtain ⟨rb2, _, kb2⟩ := aIs_eq eb2
  obtain ⟨x3, ex3, hf⟩ := oB hf
  refine v_call (pc := 7) (d_V (pc := 7) C (As := [.int a1]) (rest := []) rb2 kb2 nt_1 q2508 yi_X2_noPanel_FigureSurveyModel yk_X2_noPanel rfl (by decide) (by decide) (Nat.le_trans aw_0 (by decide)) rfl (mX2_noPanel C.st ex3) dX2_setDepth_7) ?_
  refine v_if_eq (pc := 10) (tgt := 19) C dX2_setDepth_10 rfl (fun hc => ?_) (fun hc => ?_)
  · rw [if_pos hc] at hf
    refine v_iload_n (pc := 19) (j := 2) C dX2_setDepth_19 rfl rfl ?_
    refine v_iconst (pc := 20) (v := (0 : Int32)) C dX2_setDepth_20 rfl ?_
    refine v_bipush (pc := 21) (v := (63 : Int32)) C dX2_setDepth_21 rfl ?_
    obtain ⟨x6, ex6, hf⟩ := oB hf
    refine v_call (pc := 23) (d_S (pc := 23) C (As := [.int a2, .int (0 : Int32), .int (63 : Int32)]) (rest := []) q2495 q2496 yk_X2_in rfl (by decide) (by decide) (Nat.le_trans aw_0 (by decide)) rfl (mX2_in C.st ex6) dX2_setDepth_23) ?_
    refine v_if_eq (pc := 26) (tgt := 39) C dX2_setDepth_26 rfl (fun hc => ?_) (fun hc => ?_)
    · rw [if_pos hc] at hf
      exact V.sub [0] rfl (vX2_setDepth_p39 X hf)
    · rw [if_neg hc] at hf
      refine v_iload_n (pc := 29) (j := 3) C dX2_setDepth_29 rfl rfl ?_
      refine v_iconst (pc := 30) (v := (0 : Int32)) C dX2_setDepth_30 rfl ?_
      refine v_bipush (pc := 31) (v := (15 : Int32)) C dX2_setDepth_31 rfl ?_
      obtain ⟨x9, ex9, hf⟩ := oB hf
      refine v_call (pc := 33) (d_S (pc := 33) C (As := [.int a3, .int (0 : Int32), .int (15 : Int32)]) (rest := []) q2495 q2496 yk_X2_in rfl (by decide) (by decide) (Nat.le_trans aw_0 (by decide)) rfl (mX2_in C.st ex9) dX2_setDepth_33) ?_
      refine v_if_ne (pc := 36) (tgt := 45) C dX2_setDepth_36 rfl (fun hc => ?_) (fun hc => ?_)
      · rw [if_neg hc] at hf
        refine v_aload_n (pc := 45) (j := 0) C dX2_setDepth_45 rfl rfl ?_
        refine v_iload_n (pc := 46) (j := 1) C dX2_setDepth_46 rfl rfl ?_
        obtain ⟨b11, eb11, hf⟩ := oB hf
        obtain ⟨rb11, _, kb11⟩ := aIs_eq eb11
        obtain ⟨x12, ex12, hf⟩ := oB hf
        refine v_call (pc := 47) (d_V (pc := 47) C (As := [.int a1]) (rest := []) rb11 kb11 nt_1 q2512 yi_X2_drowned_FigureSurveyModel yk_X2_drowned rfl (by decide) (by decide) (Nat.le_trans aw_0 (by decide)) rfl (mX2_drowned C.st ex12) dX2_setDepth_47) ?_
        refine v_if_eq (pc := 50) (tgt := 59) C dX2_setDepth_50 rfl (fun hc => ?_) (fun hc => ?_)
        · rw [if_pos hc] at hf
          refine v_aload_n (pc := 59) (j := 0) C dX2_setDepth_59 rfl rfl ?_
          obtain ⟨x14, ex14, hf⟩ := oB hf
          refine v_getF (pc := 60) C lk_X2_20 (gR_eq ex14) dX2_setDepth_60 ?_
          refine v_iload_n (pc := 63) (j := 1) C dX2_setDepth_63 rfl rfl ?_
          obtain ⟨b15, eb15, hf⟩ := oB hf
          obtain ⟨rb15, _, kb15⟩ := aIs_eq eb15
          obtain ⟨x16, ex16, hf⟩ := oB hf
          refine v_call (pc := 64) (d_V (pc := 64) C (As := [.int a1]) (rest := []) rb15 kb15 nt_15 q2520 yi_J2_get_java_util_ArrayList yk_J2_get rfl (by decide) (by decide) (Nat.le_trans aw_0 (by decide)) rfl (mJ2_get C.st ex16) dX2_setDepth_64) ?_
          obtain ⟨_, e18, hf⟩ := oB hf
          refine v_cast (pc := 67) C q2521 ct__I e18 dX2_setDepth_67 ?_
          refine v_iload_n (pc := 70) (j := 2) C dX2_setDepth_70 rfl rfl ?_
          obtain ⟨x19, ex19, hf⟩ := oB hf
          refine v_iaload (pc := 71) C ex19 dX2_setDepth_71 ?_
          refine v_istore (pc := 72) (lv' := [(4, false, .int x19), (0, false, va_rf a0), (1, false, .int a1), (2, false, .int a2), (3, false, .int a3)]) C dX2_setDepth_72 (by decide) rfl ?_
          refine v_aload_n (pc := 74) (j := 1) C dX2_setDepth_74 rfl rfl ?_
          obtain ⟨x20, ex20, hf⟩ := oB hf
          refine v_getF (pc := 75) C lk_X2_20 (gR_eq ex20) dX2_setDepth_75 ?_
          refine v_iload_n (pc := 78) (j := 2) C dX2_setDepth_78 rfl rfl ?_
          obtain ⟨b21, eb21, hf⟩ := oB hf
          obtain ⟨rb21, _, kb21⟩ := aIs_eq eb21
          obtain ⟨x22, ex22, hf⟩ := oB hf
          refine v_call (pc := 79) (d_V (pc := 79) C (As := [.int a1]) (rest := []) rb21 kb21 nt_15 q2520 yi_J2_get_java_util_ArrayList yk_J2_get rfl (by decide) (by decide) (Nat.le_trans aw_0 (by decide)) rfl (mJ2_get C.st ex22) dX2_setDepth_79) ?_
          obtain ⟨_, e24, hf⟩ := oB hf
          refine v_cast (pc := 82) C q2521 ct__I e24 dX2_setDepth_82 ?_
          refine v_iload_n (pc := 85) (j := 3) C dX2_setDepth_85 rfl rfl ?_
          refine v_iload_n (pc := 86) (j := 4) C dX2_setDepth_86 rfl rfl ?_
          obtain ⟨h25, eh25, hf⟩ := oB hf
          refine v_iastore (pc := 87) C eh25 dX2_setDepth_87 ?_
          refine v_iload (pc := 88) (j := 0) C dX2_setDepth_88 rfl ?_
          cases hf
          exact v_ireturn (pc := 90) C X.2.1 X.2.2.1 X.2.2.2.1 rfl dX2_setDepth_90
        · rw [if_neg hc] at hf
          refine v_aload_n (pc := 53) (j := 0) C dX2_setDepth_53 rfl rfl ?_
          refine v_iconst (pc := 54) (v := (3 : Int32)) C dX2_setDepth_54 rfl ?_
          obtain ⟨b26, eb26, hf⟩ := oB hf
          obtain ⟨rb26, _, kb26⟩ := aIs_eq eb26
          obtain ⟨x27, h28, ex27, hf⟩ := bnd2_eq hf
          refine v_call (pc := 55) (d_V (pc := 55) C (As := [.int (3 : Int32)]) (rest := []) rb26 kb26 nt_1 q2498 yi_X2_err_FigureSurveyModel yk_X2_err rfl (by decide) (by decide) (Nat.le_trans aw_0 (by decide)) rfl (mX2_err C.st ex27) dX2_setDepth_55) ?_
          cases hf
          exact v_ireturn (pc := 58) C X.2.1 X.2.2.1 X.2.2.2.1 rfl dX2_setDepth_58
      · rw [if_pos (Decidable.of_not_not hc)] at hf
        exact V.sub [0] rfl (vX2_setDepth_p39 X hf)
  · rw [if_neg hc] at hf
    refine v_aload_n (pc := 13) (j := 0) C dX2_setDepth_13 rfl rfl ?_
    refine v_iconst (pc := 14) (v := (1 : Int32)) C dX2_setDepth_14 rfl ?_
    obtain ⟨b29, eb29, hf⟩ := oB hf
    obtain ⟨rb29, _, kb29⟩ := aIs_eq eb29
    obtain ⟨x30, h31, ex30, hf⟩ := bnd2_eq hf
    refine v_call (pc := 15) (d_V (pc := 15) C (As := [.int (1 : Int32)]) (rest := []) rb29 kb29 nt_1 q2498 yi_X2_err_FigureSurveyModel yk_X2_err rfl (by decide) (by decide) (Nat.le_trans aw_0 (by decide)) rfl (mX2_err C.st ex30) dX2_setDepth_15) ?_
    cases hf
    exact v_ireturn (pc := 18) C X.2.1 X.2.2.1 X.2.2.2.1 rfl dX2_setDepth_18
theorem mX2_setDepth {l : Launch} {D : aD} {h : aH} {a0 : Option Nat} {a1 : Int32} {a2 : Int32} {a3 : Int32} {q : Int32} {g : aH} (hst : l.stackTraces = false) (hf : fX2_setDepth D h a0 a1 a2 a3 = some (q, g)) : aM l D yX2_setDepth cX2_setDepth 5 (some .int) 5 106 [va_rf a0, .int a1, .int a2, .int a3] h (.inr (some (.int q)), g) :=
  aM.ofX [(false, va_rf a0), (false, .int a1), (false, .int a2), (false, .int a3)] rfl (ap_r (ap_c rfl (ap_c rfl (ap_c rfl ap_0)))) (by decide +kernel) hst (al_of (aw_r (aw_i (aw_i (aw_i aw_0)))) (by decide)) fun p e s m args below meth c X => V.sub (lv' := [(0, false, va_rf a0), (1, false, .int a1), (2, false, .int a2), (3, false, .int a3)]) [0, 1, 2, 3] rfl (vX2_setDepth X hf)
def fJ19_bitCount (D : aD) (h : aH) (a0 : Int32) : Option (Int32) :=
  (some ((a0 - ((a0.toUInt32 >>> ((1 : Int32).toUInt32 &&& Int32.toUInt32 31)).toInt32 &&& (1431655765 : Int32))))).bind fun x1 =>
  (some (((x1 &&& (858993459 : Int32)) + ((x1.toUInt32 >>> ((2 : Int32).toUInt32 &&& Int32.toUInt32 31)).toInt32 &&& (858993459 : Int32))))).bind fun x2 =>
  (some (((x2 + (x2.toUInt32 >>> ((4 : Int32).toUInt32 &&& Int32.toUInt32 31)).toInt32) &&& (252645135 : Int32)))).bind fun x3 =>
  (some ((x3 + (x3.toUInt32 >>> ((8 : Int32).toUInt32 &&& Int32.toUInt32 31)).toInt32))).bind fun x4 =>
  (some ((x4 + (x4.toUInt32 >>> ((16 : Int32).toUInt32 &&& Int32.toUInt32 31)).toInt32))).bind fun x5 =>
  some (x5 &&& (63 : Int32))
theorem vJ19_bitCount {h : aH} {a0 : Int32} {q : Int32} (X : aX p l R s m meth c D n0 s0 yJ19_bitCount cJ19_bitCount 0 0 1 (some .int) h0) (hf : fJ19_bitCount D h a0 = some q) : V p l e R s m args below meth c D n0 s0 (aEnd D below args s h0 (.inr (some (.int q)), h)) h 0 [(0, false, .int a0)] [] := by
  have C := X.1
  unfold fJ19_bitCount at hf
  refine v_iload_n (pc := 0) (j := 0) C dJ19_bitCount_0 rfl rfl ?_
  refine v_iload_n (pc := 1) (j := 0) C dJ19_bitCount_1 rfl rfl ?_
  refine v_iconst (pc := 2) (v := (1 : Int32)) C dJ19_bitCount_2 rfl ?_
  refine v_iushr (pc := 3) C dJ19_bitCount_3 ?_
  refine v_ldc_w (pc := 4) (v := (1431655765 : Int32)) C q405 dJ19_bitCount_4 ?_
  refine v_iand (pc := 7) C dJ19_bitCount_7 ?_
  refine v_isub (pc := 8) C dJ19_bitCount_8 ?_
  obtain ⟨x1, ex1, hf⟩ := oB hf
  refine vst (Option.some.inj ex1) (fun z => .int z :: []) ?_
  refine v_istore_n (pc := 9) (lv' := [(0, false, .int x1)]) C dJ19_bitCount_9 rfl (by decide) rfl ?_
  refine v_iload_n (pc := 10) (j := 0) C dJ19_bitCount_10 rfl rfl ?_
  refine v_ldc_w (pc := 11) (v := (858993459 : Int32)) C q406 dJ19_bitCount_11 ?_
  refine v_iand (pc := 14) C dJ19_bitCount_14 ?_
  refine v_iload_n (pc := 15) (j := 0) C dJ19_bitCount_15 rfl rfl ?_
  refine v_iconst (pc := 16) (v := (2 : Int32)) C dJ19_bitCount_16 rfl ?_
  refine v_iushr (pc := 17) C dJ19_bitCount_17 ?_
  refine v_ldc_w (pc := 18) (v := (858993459 : Int32)) C q406 dJ19_bitCount_18 ?_
  refine v_iand (pc := 21) C dJ19_bitCount_21 ?_
  refine v_iadd (pc := 22) C dJ19_bitCount_22 ?_
  obtain ⟨x2, ex2, hf⟩ := oB hf
  refine vst (Option.some.inj ex2) (fun z => .int z :: []) ?_
  refine v_istore_n (pc := 23) (lv' := [(0, false, .int x2)]) C dJ19_bitCount_23 rfl (by decide) rfl ?_
  refine v_iload_n (pc := 24) (j := 0) C dJ19_bitCount_24 rfl rfl ?_
  refine v_iload_n (pc := 25) (j := 0) C dJ19_bitCount_25 rfl rfl ?_
  refine v_iconst (pc := 26) (v := (4 : Int32)) C dJ19_bitCount_26 rfl ?_
  refine v_iushr (pc := 27) C dJ19_bitCount_27 ?_
  refine v_iadd (pc := 28) C dJ19_bitCount_28 ?_
  refine v_ldc_w (pc := 29) (v := (252645135 : Int32)) C q407 dJ19_bitCount_29 ?_
  refine v_iand (pc := 32) C dJ19_bitCount_32 ?_
  obtain ⟨x3, ex3, hf⟩ := oB hf
  refine vst (Option.some.inj ex3) (fun z => .int z :: []) ?_
  refine v_istore_n (pc := 33) (lv' := [(0, false, .int x3)]) C dJ19_bitCount_33 rfl (by decide) rfl ?_
  refine v_iload_n (pc := 34) (j := 0) C dJ19_bitCount_34 rfl rfl ?_
  refine v_iload_n (pc := 35) (j := 0) C dJ19_bitCount_35 rfl rfl ?_
  refine v_bipush (pc := 36) (v := (8 : Int32)) C dJ19_bitCount_36 rfl ?_
  refine v_iushr (pc := 38) C dJ19_bitCount_38 ?_
  refine v_iadd (pc := 39) C dJ19_bitCount_39 ?_
  obtain ⟨x4, ex4, hf⟩ := oB hf
  refine vst (Option.some.inj ex4) (fun z => .int z :: []) ?_
  refine v_istore_n (pc := 40) (lv' := [(0, false, .int x4)]) C dJ19_bitCount_40 rfl (by decide) rfl ?_
  refine v_iload_n (pc := 41) (j := 0) C dJ19_bitCount_41 rfl rfl ?_
  refine v_iload_n (pc := 42) (j := 0) C dJ19_bitCount_42 rfl rfl ?_
  refine v_bipush (pc := 43) (v := (16 : Int32)) C dJ19_bitCount_43 rfl ?_
  refine v_iushr (pc := 45) C dJ19_bitCount_45 ?_
  refine v_iadd (pc := 46) C dJ19_bitCount_46 ?_
  obtain ⟨x5, ex5, hf⟩ := oB hf
  refine vst (Option.some.inj ex5) (fun z => .int z :: []) ?_
  refine v_istore_n (pc := 47) (lv' := [(0, false, .int x5)]) C dJ19_bitCount_47 rfl (by decide) rfl ?_
  refine v_iload_n (pc := 48) (j := 0) C dJ19_bitCount_48 rfl rfl ?_
  refine v_bipush (pc := 49) (v := (63 : Int32)) C dJ19_bitCount_49 rfl ?_
  refine v_iand (pc := 51) C dJ19_bitCount_51 ?_
  cases hf
  exact v_ireturn (pc := 52) C X.2.1 X.2.2.1 X.2.2.2.1 rfl dJ19_bitCount_52
theorem mJ19_bitCount {l : Launch} {D : aD} {h : aH} {a0 : Int32} {q : Int32} (hst : l.stackTraces = false) (hf : fJ19_bitCount D h a0 = some q) : aM l D yJ19_bitCount cJ19_bitCount 1 (some .int) 0 0 [.int a0] h (.inr (some (.int q)), h) :=
  aM.ofX [(false, .int a0)] rfl (ap_c rfl ap_0) (by decide +kernel) hst (al_of (aw_i aw_0) (by decide)) fun p e s m args below meth c X => V.sub (lv' := [(0, false, .int a0)]) [0] rfl (vJ19_bitCount X hf)
def fX2_light_p65 (D : aD) (h : aH) (a0 : Option Nat) : Option (Int32 × aH) :=
  (aIs h 1 a0).bind fun _ =>
  bnd2 (fX2_err D h a0 (3 : Int32)) fun x2 h3 =>
  some (x2, h3)
theorem vX2_light_p65 {h : aH} {a0 : Option Nat} {q : Int32} {g : aH} (X : aX p l R s m meth c D n0 s0 yX2_light cX2_light 5 106 4 (some .int) h0) (hf : fX2_light_p65 D h a0 = some (q, g)) : V p l e R s m args below meth c D n0 s0 (aEnd D below args s h0 (.inr (some (.int q)), g)) h 65 [(0, false, va_rf a0)] [] := by
  have C := X.1
  unfold fX2_light_p65 at hf
  refine v_aload_n (pc := 65) (j := 0) C dX2_light_65 rfl rfl ?_
  refine v_iconst (pc := 66) (v := (3 : Int32)) C dX2_light_66 rfl ?_
  obtain ⟨b1, eb1, hf⟩ := oB hf
  obtain ⟨rb1, _, kb1⟩ := aIs_eq eb1
  obtain ⟨x2, h3, ex2, hf⟩ := bnd2_eq hf
  refine v_call (pc := 67) (d_V (pc := 67) C (As := [.int (3 : Int32)]) (rest := []) rb1 kb1 nt_1 q2498 yi_X2_err_FigureSurveyModel yk_X2_err rfl (by decide) (by decide) (Nat.le_trans aw_0 (by decide)) rfl (mX2_err C.st ex2) dX2_light_67) ?_
  cases hf
  exact v_ireturn (pc := 70) C X.2.1 X.2.2.1 X.2.2.2.1 rfl dX2_light_70
def fX2_light (D : aD) (h : aH) (a0 : Option Nat) (a1 : Int32) (a2 : Int32) : Option (Int32 × aH) :=
  (pF D h 1 0 a0 (.int (0 : Int32))).bind fun h1 =>
  (aIs h1 1 a0).bind fun _ =>
  (fX2_noPanel D h1 a0 a1).bind fun x3 =>
  if x3 = 0 then
  ((fX2_in D h1 a2 (0 : Int32) (3 : Int32)).bind fun x6 =>
  if x6 = 0 then
  ((aIs h1 1 a0).bind fun _ =>
  bnd2 (fX2_err D h1 a0 (2 : Int32)) fun x24 h25 =>
  some (x24, h25))
  else
  ((gR h1 1 4 a0).bind fun x8 =>
  (aIs h1 15 x8).bind fun _ =>
  (fJ2_get D h1 x8 a1).bind fun x10 =>
  (aCast h1 [100] x10).bind fun _ =>
  (aIs h1 1 a0).bind fun _ =>
  (fX2_drowned D h1 a0 a1).bind fun x14 =>
  if x14 = 0 then
  ((eI h1 x10 (1 : Int32)).bind fun x16 =>
  if ((x16 >>> (a2 &&& 31)) &&& (1 : Int32)) = (1 : Int32) then
  (fX2_light_p65 D h1 a0)
  else
  ((eI h1 x10 (1 : Int32)).bind fun x17 =>
  (sF D h1 100 x10 (1 : Int32) (.int (x17 ||| ((1 : Int32) <<< (a2 &&& 31))))).bind fun h18 =>
  (eI h18 x10 (1 : Int32)).bind fun x19 =>
  (fJ19_bitCount D h18 x19).bind fun x21 =>
  some (x21, h18)))
  else
  (fX2_light_p65 D h1 a0)))
  else
  ((aIs h1 1 a0).bind fun _ =>
  bnd2 (fX2_err D h1 a0 (1 : Int32)) fun x27 h28 =>
  some (x27, h28))
theorem vX2_light {h : aH} {a0 : Option Nat} {a1 : Int32} {a2 : Int32} {q : Int32} {g : aH} (X : aX p l R s m meth c D n0 s0 yX2_light cX2_light 5 106 4 (some .int) h0) (hf : fX2_light D h a0 a1 a2 = some (q, g)) : V p l e R s m args below meth c D n0 s0 (aEnd D below args s h0 (.inr (some (.int q)), g)) h 0 [(0, false, va_rf a0), (1, false, .int a1), (2, false, .int a2)] [] := by
  have C := X.1
  unfold fX2_light at hf
  refine v_aload_n (pc := 0) (j := 0) C dX2_light_0 rfl rfl ?_
  refine v_iconst (pc := 1) (v := (0 : Int32)) C dX2_light_1 rfl ?_
  obtain ⟨h1, eh1, hf⟩ := oB hf
  refine v_putF (pc := 2) C lk_X2_69 tyX2 tyX2_ok nmX2 (tyX2_ok 0 (by decide)) rfl rfl eh1 dX2_light_2 ?_
  refine v_aload_n (pc := 5) (j := 0) C dX2_light_5 rfl rfl ?_
  refine v_iload_n (pc := 6) (j := 1) C dX2_light_6 rfl rfl ?_
  obtain ⟨b2, eb2, hf⟩ := oB hf
  obtain ⟨rb2, _, kb2⟩ := aIs_eq eb2
  obtain ⟨x3, ex3, hf⟩ := oB hf
  refine v_call (pc := 7) (d_V (pc := 7) C (As := [.int a1]) (rest := []) rb2 kb2 nt_1 q2508 yi_X2_noPanel_FigureSurveyModel yk_X2_noPanel rfl (by decide) (by decide) (Nat.le_trans aw_0 (by decide)) rfl (mX2_noPanel C.st ex3) dX2_light_7) ?_
  refine v_if_eq (pc := 10) (tgt := 19) C dX2_light_10 rfl (fun hc => ?_) (fun hc => ?_)
  · rw [if_pos hc] at hf
    refine v_iload_n (pc := 19) (j := 2) C dX2_light_19 rfl rfl ?_
    refine v_iconst (pc := 20) (v := (0 : Int32)) C dX2_light_20 rfl ?_
    refine v_iconst (pc := 21) (v := (3 : Int32)) C dX2_light_21 rfl ?_
    obtain ⟨x6, ex6, hf⟩ := oB hf
    refine v_call (pc := 22) (d_S (pc := 22) C (As := [.int a2, .int (0 : Int32), .int (3 : Int32)]) (rest := []) q2495 q2496 yk_X2_in rfl (by decide) (by decide) (Nat.le_trans aw_0 (by decide)) rfl (mX2_in C.st ex6) dX2_light_22) ?_
    refine v_if_ne (pc := 25) (tgt := 34) C dX2_light_25 rfl (fun hc => ?_) (fun hc => ?_)
    · rw [if_neg hc] at hf
      refine v_aload_n (pc := 34) (j := 0) C dX2_light_34 rfl rfl ?_
      obtain ⟨x8, ex8, hf⟩ := oB hf
      refine v_getF (pc := 35) C lk_X2_16 (gR_eq ex8) dX2_light_35 ?_
      refine v_iload_n (pc := 38) (j := 1) C dX2_light_38 rfl rfl ?_
      obtain ⟨b9, eb9, hf⟩ := oB hf
      obtain ⟨rb9, _, kb9⟩ := aIs_eq eb9
      obtain ⟨x10, ex10, hf⟩ := oB hf
      refine v_call (pc := 39) (d_V (pc := 39) C (As := [.int a1]) (rest := []) rb9 kb9 nt_15 q2520 yi_J2_get_java_util_ArrayList yk_J2_get rfl (by decide) (by decide) (Nat.le_trans aw_0 (by decide)) rfl (mJ2_get C.st ex10) dX2_light_39) ?_
      obtain ⟨_, e12, hf⟩ := oB hf
      refine v_cast (pc := 42) C q2521 ct__I e12 dX2_light_42 ?_
      refine v_astore_n (pc := 45) (lv' := [(3, false, va_rf x10), (0, false, va_rf a0), (1, false, .int a1), (2, false, .int a2)]) C dX2_light_45 rfl (by decide) rfl ?_
      refine v_aload_n (pc := 46) (j := 1) C dX2_light_46 rfl rfl ?_
      refine v_iload_n (pc := 47) (j := 2) C dX2_light_47 rfl rfl ?_
      obtain ⟨b13, eb13, hf⟩ := oB hf
      obtain ⟨rb13, _, kb13⟩ := aIs_eq eb13
      obtain ⟨x14, ex14, hf⟩ := oB hf
      refine v_call (pc := 48) (d_V (pc := 48) C (As := [.int a1]) (rest := []) rb13 kb13 nt_1 q2512 yi_X2_drowned_FigureSurveyModel yk_X2_drowned rfl (by decide) (by decide) (Nat.le_trans aw_0 (by decide)) rfl (mX2_drowned C.st ex14) dX2_light_48) ?_
      refine v_if_ne (pc := 51) (tgt := 65) C dX2_light_51 rfl (fun hc => ?_) (fun hc => ?_)
      · rw [if_neg hc] at hf
        exact V.sub [1] rfl (vX2_light_p65 X hf)
      · rw [if_pos (Decidable.of_not_not hc)] at hf
        refine v_aload_n (pc := 54) (j := 0) C dX2_light_54 rfl rfl ?_
        refine v_iconst (pc := 55) (v := (1 : Int32)) C dX2_light_55 rfl ?_
        obtain ⟨x16, ex16, hf⟩ := oB hf
        refine v_iaload (pc := 56) C ex16 dX2_light_56 ?_
        refine v_iload_n (pc := 57) (j := 3) C dX2_light_57 rfl rfl ?_
        refine v_ishr (pc := 58) C dX2_light_58 ?_
        refine v_iconst (pc := 59) (v := (1 : Int32)) C dX2_light_59 rfl ?_
        refine v_iand (pc := 60) C dX2_light_60 ?_
        refine v_iconst (pc := 61) (v := (1 : Int32)) C dX2_light_61 rfl ?_
        refine v_icmp_ne (pc := 62) (tgt := 71) C dX2_light_62 rfl (fun hc => ?_) (fun hc => ?_)
        · rw [if_neg hc] at hf
          refine v_aload_n (pc := 71) (j := 0) C dX2_light_71 rfl rfl ?_
          refine v_iconst (pc := 72) (v := (1 : Int32)) C dX2_light_72 rfl ?_
          refine v_dup2_11 (pc := 73) C dX2_light_73 rfl (va_rfc _) ?_
          obtain ⟨x17, ex17, hf⟩ := oB hf
          refine v_iaload (pc := 74) C ex17 dX2_light_74 ?_
          refine v_iconst (pc := 75) (v := (1 : Int32)) C dX2_light_75 rfl ?_
          refine v_iload_n (pc := 76) (j := 3) C dX2_light_76 rfl rfl ?_
          refine v_ishl (pc := 77) C dX2_light_77 ?_
          refine v_ior (pc := 78) C dX2_light_78 ?_
          obtain ⟨h18, eh18, hf⟩ := oB hf
          refine v_iastore (pc := 79) C eh18 dX2_light_79 ?_
          refine v_aload_n (pc := 80) (j := 0) C dX2_light_80 rfl rfl ?_
          refine v_iconst (pc := 81) (v := (1 : Int32)) C dX2_light_81 rfl ?_
          obtain ⟨x19, ex19, hf⟩ := oB hf
          refine v_iaload (pc := 82) C ex19 dX2_light_82 ?_
          obtain ⟨x21, ex21, hf⟩ := oB hf
          refine v_call (pc := 83) (d_S (pc := 83) C (As := [.int x19]) (rest := []) q2526 q403 yk_J19_bitCount rfl (by decide) (by decide) (Nat.le_trans aw_0 (by decide)) rfl (mJ19_bitCount C.st ex21) dX2_light_83) ?_
          cases hf
          exact v_ireturn (pc := 86) C X.2.1 X.2.2.1 X.2.2.2.1 rfl dX2_light_86
        · rw [if_pos (Decidable.of_not_not hc)] at hf
          exact V.sub [1] rfl (vX2_light_p65 X hf)
    · rw [if_pos (Decidable.of_not_not hc)] at hf
      refine v_aload_n (pc := 28) (j := 0) C dX2_light_28 rfl rfl ?_
      refine v_iconst (pc := 29) (v := (2 : Int32)) C dX2_light_29 rfl ?_
      obtain ⟨b23, eb23, hf⟩ := oB hf
      obtain ⟨rb23, _, kb23⟩ := aIs_eq eb23
      obtain ⟨x24, h25, ex24, hf⟩ := bnd2_eq hf
      refine v_call (pc := 30) (d_V (pc := 30) C (As := [.int (2 : Int32)]) (rest := []) rb23 kb23 nt_1 q2498 yi_X2_err_FigureSurveyModel yk_X2_err rfl (by decide) (by decide) (Nat.le_trans aw_0 (by decide)) rfl (mX2_err C.st ex24) dX2_light_30) ?_
      cases hf
      exact v_ireturn (pc := 33) C X.2.1 X.2.2.1 X.2.2.2.1 rfl dX2_light_33
  · rw [if_neg hc] at hf
    refine v_aload_n (pc := 13) (j := 0) C dX2_light_13 rfl rfl ?_
    refine v_iconst (pc := 14) (v := (1 : Int32)) C dX2_light_14 rfl ?_
    obtain ⟨b26, eb26, hf⟩ := oB hf
    obtain ⟨rb26, _, kb26⟩ := aIs_eq eb26
    obtain ⟨x27, h28, ex27, hf⟩ := bnd2_eq hf
    refine v_call (pc := 15) (d_V (pc := 15) C (As := [.int (1 : Int32)]) (rest := []) rb26 kb26 nt_1 q2498 yi_X2_err_FigureSurveyModel yk_X2_err rfl (by decide) (by decide) (Nat.le_trans aw_0 (by decide)) rfl (mX2_err C.st ex27) dX2_light_15) ?_
    cases hf
    exact v_ireturn (pc := 18) C X.2.1 X.2.2.1 X.2.2.2.1 rfl dX2_light_18
theorem mX2_light {l : Launch} {D : aD} {h : aH} {a0 : Option Nat} {a1 : Int32} {a2 : Int32} {q : Int32} {g : aH} (hst : l.stackTraces = false) (hf : fX2_light D h a0 a1 a2 = some (q, g)) : aM l D yX2_light cX2_light 4 (some .int) 5 106 [va_rf a0, .int a1, .int a2] h (.inr (some (.int q)), g) :=
  aM.ofX [(false, va_rf a0), (false, .int a1), (false, .int a2)] rfl (ap_r (ap_c rfl (ap_c rfl ap_0))) (by decide +kernel) hst (al_of (aw_r (aw_i (aw_i aw_0))) (by decide)) fun p e s m args below meth c X => V.sub (lv' := [(0, false, va_rf a0), (1, false, .int a1), (2, false, .int a2)]) [0, 1, 2] rfl (vX2_light X hf)
def fJ11_abs (D : aD) (h : aH) (a0 : Int32) : Option (Int32) :=
  if 0 ≤ a0 then
  (some a0)
  else
  (some (-a0))
theorem vJ11_abs {h : aH} {a0 : Int32} {q : Int32} (X : aX p l R s m meth c D n0 s0 yJ11_abs cJ11_abs 0 0 1 (some .int) h0) (hf : fJ11_abs D h a0 = some q) : V p l e R s m args below meth c D n0 s0 (aEnd D below args s h0 (.inr (some (.int q)), h)) h 0 [(0, false, .int a0)] [] := by
  have C := X.1
  unfold fJ11_abs at hf
  refine v_iload_n (pc := 0) (j := 0) C dJ11_abs_0 rfl rfl ?_
  refine v_if_ge (pc := 1) (tgt := 9) C dJ11_abs_1 rfl (fun hc => ?_) (fun hc => ?_)
  · rw [if_pos hc] at hf
    refine v_iload_n (pc := 9) (j := 0) C dJ11_abs_9 rfl rfl ?_
    cases hf
    exact v_ireturn (pc := 10) C X.2.1 X.2.2.1 X.2.2.2.1 rfl dJ11_abs_10
  · rw [if_neg hc] at hf
    refine v_iload_n (pc := 4) (j := 0) C dJ11_abs_4 rfl rfl ?_
    refine v_ineg (pc := 5) C dJ11_abs_5 ?_
    refine v_goto (pc := 6) (tgt := 10) C dJ11_abs_6 rfl ?_
    cases hf
    exact v_ireturn (pc := 10) C X.2.1 X.2.2.1 X.2.2.2.1 rfl dJ11_abs_10
theorem mJ11_abs {l : Launch} {D : aD} {h : aH} {a0 : Int32} {q : Int32} (hst : l.stackTraces = false) (hf : fJ11_abs D h a0 = some q) : aM l D yJ11_abs cJ11_abs 1 (some .int) 0 0 [.int a0] h (.inr (some (.int q)), h) :=
  aM.ofX [(false, .int a0)] rfl (ap_c rfl ap_0) (by decide +kernel) hst (al_of (aw_i aw_0) (by decide)) fun p e s m args below meth c X => V.sub (lv' := [(0, false, .int a0)]) [0] rfl (vJ11_abs X hf)
def fX2_times_p164 (D : aD) (h : aH) (K30 : (Option Nat) → Int32 → Int32 → (Option Nat) → Int32 → Int32 → Int32 → Int32 → Option (Int32)) (a0 : Option Nat) (a1 : Int32) (a2 : Int32) (a3 : Option Nat) (a4 : Int32) (a5 : Int32) (a6 : Int32) (a7 : Int32) : Option (Int32) :=
  K30 a0 a1 a2 a3 a4 a5 a6 (a7 + 1)
theorem vX2_times_p164 {h : aH} {K30 : (Option Nat) → Int32 → Int32 → (Option Nat) → Int32 → Int32 → Int32 → Int32 → Option (Int32)} {a0 : Option Nat} {a1 : Int32} {a2 : Int32} {a3 : Option Nat} {a4 : Int32} {a5 : Int32} {a6 : Int32} {a7 : Int32} {q : Int32} (X : aX p l R s m meth c D n0 s0 yX2_times cX2_times 3 64 10 (some .int) h0) (k30 : ∀ (a0 : Option Nat) (a1 : Int32) (a2 : Int32) (a3 : Option Nat) (a4 : Int32) (a5 : Int32) (a6 : Int32) (a7 : Int32) (q : Int32), K30 a0 a1 a2 a3 a4 a5 a6 a7 = some q → V p l e R s m args below meth c D n0 s0 (aEnd D below args s h0 (.inr (some (.int q)), h)) h 30 [(0, false, va_rf a0), (1, false, .int a1), (2, false, .int a2), (3, false, va_rf a3), (4, false, .int a4), (5, false, .int a5), (6, false, .int a6), (7, false, .int a7)] []) (hf : fX2_times_p164 D h K30 a0 a1 a2 a3 a4 a5 a6 a7 = some q) : V p l e R s m args below meth c D n0 s0 (aEnd D below args s h0 (.inr (some (.int q)), h)) h 164 [(0, false, va_rf a0), (1, false, .int a1), (2, false, .int a2), (3, false, va_rf a3), (4, false, .int a4), (5, false, .int a5), (6, false, .int a6), (7, false, .int a7)] [] := by
  have C := X.1
  unfold fX2_times_p164 at hf
  refine v_iinc (pc := 164) (j := 7) (v := (a7 + 1)) (lv' := [(7, false, .int (a7 + 1)), (0, false, va_rf a0), (1, false, .int a1), (2, false, .int a2), (3, false, va_rf a3), (4, false, .int a4), (5, false, .int a5), (6, false, .int a6)]) C dX2_times_164 rfl rfl (by decide) rfl ?_
  refine v_goto (pc := 167) (tgt := 30) C dX2_times_167 rfl ?_
  exact V.sub [1, 2, 3, 4, 5, 6, 7, 0] rfl (k30 _ _ _ _ _ _ _ _ _ hf)
def fX2_times_p161 (D : aD) (h : aH) (K30 : (Option Nat) → Int32 → Int32 → (Option Nat) → Int32 → Int32 → Int32 → Int32 → Option (Int32)) (a0 : Option Nat) (a1 : Int32) (a2 : Int32) (a3 : Option Nat) (a4 : Int32) (a5 : Int32) (a7 : Int32) (t0 : Int32) (t1 : Int32) : Option (Int32) :=
  (some ((t0 + t1))).bind fun x1 =>
  fX2_times_p164 D h K30 a0 a1 a2 a3 a4 a5 x1 a7
theorem vX2_times_p161 {h : aH} {K30 : (Option Nat) → Int32 → Int32 → (Option Nat) → Int32 → Int32 → Int32 → Int32 → Option (Int32)} {a0 : Option Nat} {a1 : Int32} {a2 : Int32} {a3 : Option Nat} {a4 : Int32} {a5 : Int32} {a7 : Int32} {t0 : Int32} {t1 : Int32} {q : Int32} (X : aX p l R s m meth c D n0 s0 yX2_times cX2_times 3 64 10 (some .int) h0) (k30 : ∀ (a0 : Option Nat) (a1 : Int32) (a2 : Int32) (a3 : Option Nat) (a4 : Int32) (a5 : Int32) (a6 : Int32) (a7 : Int32) (q : Int32), K30 a0 a1 a2 a3 a4 a5 a6 a7 = some q → V p l e R s m args below meth c D n0 s0 (aEnd D below args s h0 (.inr (some (.int q)), h)) h 30 [(0, false, va_rf a0), (1, false, .int a1), (2, false, .int a2), (3, false, va_rf a3), (4, false, .int a4), (5, false, .int a5), (6, false, .int a6), (7, false, .int a7)] []) (hf : fX2_times_p161 D h K30 a0 a1 a2 a3 a4 a5 a7 t0 t1 = some q) : V p l e R s m args below meth c D n0 s0 (aEnd D below args s h0 (.inr (some (.int q)), h)) h 161 [(0, false, va_rf a0), (1, false, .int a1), (2, false, .int a2), (3, false, va_rf a3), (4, false, .int a4), (5, false, .int a5), (7, false, .int a7)] [.int t1, .int t0] := by
  have C := X.1
  unfold fX2_times_p161 at hf
  refine v_iadd (pc := 161) C dX2_times_161 ?_
  obtain ⟨x1, ex1, hf⟩ := oB hf
  refine vst (Option.some.inj ex1) (fun z => .int z :: []) ?_
  refine v_istore (pc := 162) (lv' := [(6, false, .int x1), (0, false, va_rf a0), (1, false, .int a1), (2, false, .int a2), (3, false, va_rf a3), (4, false, .int a4), (5, false, .int a5), (7, false, .int a7)]) C dX2_times_162 (by decide) rfl ?_
  exact V.sub [1, 2, 3, 4, 5, 6, 0, 7] rfl (vX2_times_p164 X k30 hf)
def fX2_times_p84 (D : aD) (h : aH) (K30 : (Option Nat) → Int32 → Int32 → (Option Nat) → Int32 → Int32 → Int32 → Int32 → Option (Int32)) (a0 : Option Nat) (a1 : Int32) (a2 : Int32) (a3 : Option Nat) (a4 : Int32) (a5 : Int32) (a6 : Int32) (a7 : Int32) (a8 : Int32) (t0 : Int32) (t1 : Int32) : Option (Int32) :=
  (some ((t0 + t1))).bind fun x1 =>
  (gR h 1 4 a0).bind fun x2 =>
  (aIs h 15 x2).bind fun _ =>
  (fJ2_get D h x2 a1).bind fun x4 =>
  (aCast h [100] x4).bind fun _ =>
  (eI h x4 (1 : Int32)).bind fun x7 =>
  if ((x7 >>> (a7 &&& 31)) &&& (1 : Int32)) = 0 then
  (fX2_times_p164 D h K30 a0 a1 a2 a3 a4 a5 a6 a7)
  else
  ((fX2_in D h a8 (0 : Int32) (7 : Int32)).bind fun x9 =>
  if x9 = 0 then
  (fX2_times_p164 D h K30 a0 a1 a2 a3 a4 a5 a6 a7)
  else
  ((fX2_in D h x1 (0 : Int32) (7 : Int32)).bind fun x12 =>
  if x12 = 0 then
  (fX2_times_p164 D h K30 a0 a1 a2 a3 a4 a5 a6 a7)
  else
  ((eI h a3 a2).bind fun x14 =>
  (eI h a3 (((8 : Int32) * x1) + a8)).bind fun x15 =>
  (fJ11_abs D h (x14 - x15)).bind fun x17 =>
  fX2_times_p161 D h K30 a0 a1 a2 a3 a4 a5 a7 a6 (if x17 < (3 : Int32) then (0 : Int32) else (1 : Int32)))))
theorem vX2_times_p84 {h : aH} {K30 : (Option Nat) → Int32 → Int32 → (Option Nat) → Int32 → Int32 → Int32 → Int32 → Option (Int32)} {a0 : Option Nat} {a1 : Int32} {a2 : Int32} {a3 : Option Nat} {a4 : Int32} {a5 : Int32} {a6 : Int32} {a7 : Int32} {a8 : Int32} {t0 : Int32} {t1 : Int32} {q : Int32} (X : aX p l R s m meth c D n0 s0 yX2_times cX2_times 3 64 10 (some .int) h0) (k30 : ∀ (a0 : Option Nat) (a1 : Int32) (a2 : Int32) (a3 : Option Nat) (a4 : Int32) (a5 : Int32) (a6 : Int32) (a7 : Int32) (q : Int32), K30 a0 a1 a2 a3 a4 a5 a6 a7 = some q → V p l e R s m args below meth c D n0 s0 (aEnd D below args s h0 (.inr (some (.int q)), h)) h 30 [(0, false, va_rf a0), (1, false, .int a1), (2, false, .int a2), (3, false, va_rf a3), (4, false, .int a4), (5, false, .int a5), (6, false, .int a6), (7, false, .int a7)] []) (hf : fX2_times_p84 D h K30 a0 a1 a2 a3 a4 a5 a6 a7 a8 t0 t1 = some q) : V p l e R s m args below meth c D n0 s0 (aEnd D below args s h0 (.inr (some (.int q)), h)) h 84 [(0, false, va_rf a0), (1, false, .int a1), (2, false, .int a2), (3, false, va_rf a3), (4, false, .int a4), (5, false, .int a5), (6, false, .int a6), (7, false, .int a7), (8, false, .int a8)] [.int t1, .int t0] := by
  have C := X.1
  unfold fX2_times_p84 at hf
  refine v_iadd (pc := 84) C dX2_times_84 ?_
  obtain ⟨x1, ex1, hf⟩ := oB hf
  refine vst (Option.some.inj ex1) (fun z => .int z :: []) ?_
  refine v_istore (pc := 85) (lv' := [(9, false, .int x1), (0, false, va_rf a0), (1, false, .int a1), (2, false, .int a2), (3, false, va_rf a3), (4, false, .int a4), (5, false, .int a5), (6, false, .int a6), (7, false, .int a7), (8, false, .int a8)]) C dX2_times_85 (by decide) rfl ?_
  refine v_aload_n (pc := 87) (j := 1) C dX2_times_87 rfl rfl ?_
  obtain ⟨x2, ex2, hf⟩ := oB hf
  refine v_getF (pc := 88) C lk_X2_16 (gR_eq ex2) dX2_times_88 ?_
  refine v_iload_n (pc := 91) (j := 2) C dX2_times_91 rfl rfl ?_
  obtain ⟨b3, eb3, hf⟩ := oB hf
  obtain ⟨rb3, _, kb3⟩ := aIs_eq eb3
  obtain ⟨x4, ex4, hf⟩ := oB hf
  refine v_call (pc := 92) (d_V (pc := 92) C (As := [.int a1]) (rest := []) rb3 kb3 nt_15 q2520 yi_J2_get_java_util_ArrayList yk_J2_get rfl (by decide) (by decide) (Nat.le_trans aw_0 (by decide)) rfl (mJ2_get C.st ex4) dX2_times_92) ?_
  obtain ⟨_, e6, hf⟩ := oB hf
  refine v_cast (pc := 95) C q2521 ct__I e6 dX2_times_95 ?_
  refine v_iconst (pc := 98) (v := (1 : Int32)) C dX2_times_98 rfl ?_
  obtain ⟨x7, ex7, hf⟩ := oB hf
  refine v_iaload (pc := 99) C ex7 dX2_times_99 ?_
  refine v_iload (pc := 100) (j := 8) C dX2_times_100 rfl ?_
  refine v_ishr (pc := 102) C dX2_times_102 ?_
  refine v_iconst (pc := 103) (v := (1 : Int32)) C dX2_times_103 rfl ?_
  refine v_iand (pc := 104) C dX2_times_104 ?_
  refine v_if_eq (pc := 105) (tgt := 164) C dX2_times_105 rfl (fun hc => ?_) (fun hc => ?_)
  · rw [if_pos hc] at hf
    exact V.sub [1, 2, 3, 4, 5, 6, 7, 8] rfl (vX2_times_p164 X k30 hf)
  · rw [if_neg hc] at hf
    refine v_iload (pc := 108) (j := 9) C dX2_times_108 rfl ?_
    refine v_iconst (pc := 110) (v := (0 : Int32)) C dX2_times_110 rfl ?_
    refine v_bipush (pc := 111) (v := (7 : Int32)) C dX2_times_111 rfl ?_
    obtain ⟨x9, ex9, hf⟩ := oB hf
    refine v_call (pc := 113) (d_S (pc := 113) C (As := [.int a8, .int (0 : Int32), .int (7 : Int32)]) (rest := []) q2495 q2496 yk_X2_in rfl (by decide) (by decide) (Nat.le_trans aw_0 (by decide)) rfl (mX2_in C.st ex9) dX2_times_113) ?_
    refine v_if_eq (pc := 116) (tgt := 164) C dX2_times_116 rfl (fun hc => ?_) (fun hc => ?_)
    · rw [if_pos hc] at hf
      exact V.sub [1, 2, 3, 4, 5, 6, 7, 8] rfl (vX2_times_p164 X k30 hf)
    · rw [if_neg hc] at hf
      refine v_iload (pc := 119) (j := 0) C dX2_times_119 rfl ?_
      refine v_iconst (pc := 121) (v := (0 : Int32)) C dX2_times_121 rfl ?_
      refine v_bipush (pc := 122) (v := (7 : Int32)) C dX2_times_122 rfl ?_
      obtain ⟨x12, ex12, hf⟩ := oB hf
      refine v_call (pc := 124) (d_S (pc := 124) C (As := [.int x1, .int (0 : Int32), .int (7 : Int32)]) (rest := []) q2495 q2496 yk_X2_in rfl (by decide) (by decide) (Nat.le_trans aw_0 (by decide)) rfl (mX2_in C.st ex12) dX2_times_124) ?_
      refine v_if_ne (pc := 127) (tgt := 133) C dX2_times_127 rfl (fun hc => ?_) (fun hc => ?_)
      · rw [if_neg hc] at hf
        refine v_iload (pc := 133) (j := 7) C dX2_times_133 rfl ?_
        refine v_aload_n (pc := 135) (j := 4) C dX2_times_135 rfl rfl ?_
        refine v_iload_n (pc := 136) (j := 3) C dX2_times_136 rfl rfl ?_
        obtain ⟨x14, ex14, hf⟩ := oB hf
        refine v_iaload (pc := 137) C ex14 dX2_times_137 ?_
        refine v_aload_n (pc := 138) (j := 4) C dX2_times_138 rfl rfl ?_
        refine v_bipush (pc := 139) (v := (8 : Int32)) C dX2_times_139 rfl ?_
        refine v_iload (pc := 141) (j := 0) C dX2_times_141 rfl ?_
        refine v_imul (pc := 143) C dX2_times_143 ?_
        refine v_iload (pc := 144) (j := 9) C dX2_times_144 rfl ?_
        refine v_iadd (pc := 146) C dX2_times_146 ?_
        obtain ⟨x15, ex15, hf⟩ := oB hf
        refine v_iaload (pc := 147) C ex15 dX2_times_147 ?_
        refine v_isub (pc := 148) C dX2_times_148 ?_
        obtain ⟨x17, ex17, hf⟩ := oB hf
        refine v_call (pc := 149) (d_S (pc := 149) C (As := [.int (x14 - x15)]) (rest := [.int a6]) q2535 q592 yk_J11_abs rfl (by decide) (by decide) (Nat.le_trans (aw_i aw_0) (by decide)) rfl (mJ11_abs C.st ex17) dX2_times_149) ?_
        refine v_iconst (pc := 152) (v := (3 : Int32)) C dX2_times_152 rfl ?_
        refine v_icmp_lt (pc := 153) (tgt := 160) C dX2_times_153 rfl (fun hc => ?_) (fun hc => ?_)
        · simp only [if_pos hc] at hf
          refine v_iconst (pc := 160) (v := (0 : Int32)) C dX2_times_160 rfl ?_
          exact V.sub [1, 2, 3, 4, 5, 6, 8] rfl (vX2_times_p161 X k30 hf)
        · simp only [if_neg hc] at hf
          refine v_iconst (pc := 156) (v := (1 : Int32)) C dX2_times_156 rfl ?_
          refine v_goto (pc := 157) (tgt := 161) C dX2_times_157 rfl ?_
          exact V.sub [1, 2, 3, 4, 5, 6, 8] rfl (vX2_times_p161 X k30 hf)
      · rw [if_pos (Decidable.of_not_not hc)] at hf
        refine v_goto (pc := 130) (tgt := 164) C dX2_times_130 rfl ?_
        exact V.sub [1, 2, 3, 4, 5, 6, 7, 8] rfl (vX2_times_p164 X k30 hf)
def fX2_times_p59 (D : aD) (h : aH) (K30 : (Option Nat) → Int32 → Int32 → (Option Nat) → Int32 → Int32 → Int32 → Int32 → Option (Int32)) (a0 : Option Nat) (a1 : Int32) (a2 : Int32) (a3 : Option Nat) (a4 : Int32) (a5 : Int32) (a6 : Int32) (a7 : Int32) (t0 : Int32) (t1 : Int32) : Option (Int32) :=
  (some ((t0 + t1))).bind fun x1 =>
  fX2_times_p84 D h K30 a0 a1 a2 a3 a4 a5 a6 a7 x1 a5 (if a7 = (2 : Int32) then (1 : Int32) else (if a7 = 0 then (-1 : Int32) else (0 : Int32)))
theorem vX2_times_p59 {h : aH} {K30 : (Option Nat) → Int32 → Int32 → (Option Nat) → Int32 → Int32 → Int32 → Int32 → Option (Int32)} {a0 : Option Nat} {a1 : Int32} {a2 : Int32} {a3 : Option Nat} {a4 : Int32} {a5 : Int32} {a6 : Int32} {a7 : Int32} {t0 : Int32} {t1 : Int32} {q : Int32} (X : aX p l R s m meth c D n0 s0 yX2_times cX2_times 3 64 10 (some .int) h0) (k30 : ∀ (a0 : Option Nat) (a1 : Int32) (a2 : Int32) (a3 : Option Nat) (a4 : Int32) (a5 : Int32) (a6 : Int32) (a7 : Int32) (q : Int32), K30 a0 a1 a2 a3 a4 a5 a6 a7 = some q → V p l e R s m args below meth c D n0 s0 (aEnd D below args s h0 (.inr (some (.int q)), h)) h 30 [(0, false, va_rf a0), (1, false, .int a1), (2, false, .int a2), (3, false, va_rf a3), (4, false, .int a4), (5, false, .int a5), (6, false, .int a6), (7, false, .int a7)] []) (hf : fX2_times_p59 D h K30 a0 a1 a2 a3 a4 a5 a6 a7 t0 t1 = some q) : V p l e R s m args below meth c D n0 s0 (aEnd D below args s h0 (.inr (some (.int q)), h)) h 59 [(0, false, va_rf a0), (1, false, .int a1), (2, false, .int a2), (3, false, va_rf a3), (4, false, .int a4), (5, false, .int a5), (6, false, .int a6), (7, false, .int a7)] [.int t1, .int t0] := by
  have C := X.1
  unfold fX2_times_p59 at hf
  refine v_iadd (pc := 59) C dX2_times_59 ?_
  obtain ⟨x1, ex1, hf⟩ := oB hf
  refine vst (Option.some.inj ex1) (fun z => .int z :: []) ?_
  refine v_istore (pc := 60) (lv' := [(8, false, .int x1), (0, false, va_rf a0), (1, false, .int a1), (2, false, .int a2), (3, false, va_rf a3), (4, false, .int a4), (5, false, .int a5), (6, false, .int a6), (7, false, .int a7)]) C dX2_times_60 (by decide) rfl ?_
  refine v_iload (pc := 62) (j := 6) C dX2_times_62 rfl ?_
  refine v_iload (pc := 64) (j := 8) C dX2_times_64 rfl ?_
  refine v_iconst (pc := 66) (v := (2 : Int32)) C dX2_times_66 rfl ?_
  refine v_icmp_ne (pc := 67) (tgt := 74) C dX2_times_67 rfl (fun hc => ?_) (fun hc => ?_)
  · simp only [if_neg hc] at hf
    refine v_iload (pc := 74) (j := 8) C dX2_times_74 rfl ?_
    refine v_if_ne (pc := 76) (tgt := 83) C dX2_times_76 rfl (fun hc => ?_) (fun hc => ?_)
    · simp only [if_neg hc] at hf
      refine v_iconst (pc := 83) (v := (0 : Int32)) C dX2_times_83 rfl ?_
      exact V.sub [1, 2, 3, 4, 5, 6, 7, 8, 0] rfl (vX2_times_p84 X k30 hf)
    · simp only [if_pos (Decidable.of_not_not hc)] at hf
      refine v_iconst (pc := 79) (v := (-1 : Int32)) C dX2_times_79 rfl ?_
      refine v_goto (pc := 80) (tgt := 84) C dX2_times_80 rfl ?_
      exact V.sub [1, 2, 3, 4, 5, 6, 7, 8, 0] rfl (vX2_times_p84 X k30 hf)
  · simp only [if_pos (Decidable.of_not_not hc)] at hf
    refine v_iconst (pc := 70) (v := (1 : Int32)) C dX2_times_70 rfl ?_
    refine v_goto (pc := 71) (tgt := 84) C dX2_times_71 rfl ?_
    exact V.sub [1, 2, 3, 4, 5, 6, 7, 8, 0] rfl (vX2_times_p84 X k30 hf)
def fX2_times_p30 (D : aD) (h : aH) : Nat → (Option Nat) → Int32 → Int32 → (Option Nat) → Int32 → Int32 → Int32 → Int32 → Option (Int32)
  | 0, _, _, _, _, _, _, _, _ => none
  | n + 1, a0, a1, a2, a3, a4, a5, a6, a7 =>
  if (4 : Int32) ≤ a7 then
  (some a6)
  else
  (fX2_times_p59 D h (fX2_times_p30 D h n) a0 a1 a2 a3 a4 a5 a6 a7 a4 (if a7 = (1 : Int32) then (1 : Int32) else (if a7 = (3 : Int32) then (-1 : Int32) else (0 : Int32))))
theorem vX2_times_p30 {h : aH} (X : aX p l R s m meth c D n0 s0 yX2_times cX2_times 3 64 10 (some .int) h0) : ∀ (n : Nat) (a0 : Option Nat) (a1 : Int32) (a2 : Int32) (a3 : Option Nat) (a4 : Int32) (a5 : Int32) (a6 : Int32) (a7 : Int32) (q : Int32), fX2_times_p30 D h n a0 a1 a2 a3 a4 a5 a6 a7 = some q → V p l e R s m args below meth c D n0 s0 (aEnd D below args s h0 (.inr (some (.int q)), h)) h 30 [(0, false, va_rf a0), (1, false, .int a1), (2, false, .int a2), (3, false, va_rf a3), (4, false, .int a4), (5, false, .int a5), (6, false, .int a6), (7, false, .int a7)] [] := by
  have C := X.1
  intro n
  induction n with
  | zero =>
    intro _ _ _ _ _ _ _ _ _ hf
    rw [fX2_times_p30] at hf
    cases hf
  | succ n ih =>
    intro a0 a1 a2 a3 a4 a5 a6 a7 q hf
    rw [fX2_times_p30] at hf
    refine v_iload (pc := 30) (j := 7) C dX2_times_30 rfl ?_
    refine v_iconst (pc := 32) (v := (4 : Int32)) C dX2_times_32 rfl ?_
    refine v_icmp_ge (pc := 33) (tgt := 170) C dX2_times_33 rfl (fun hc => ?_) (fun hc => ?_)
    · rw [if_pos hc] at hf
      refine v_iload (pc := 170) (j := 6) C dX2_times_170 rfl ?_
      cases hf
      exact v_ireturn (pc := 172) C X.2.1 X.2.2.1 X.2.2.2.1 rfl dX2_times_172
    · rw [if_neg hc] at hf
      refine v_iload (pc := 36) (j := 4) C dX2_times_36 rfl ?_
      refine v_iload (pc := 38) (j := 7) C dX2_times_38 rfl ?_
      refine v_iconst (pc := 40) (v := (1 : Int32)) C dX2_times_40 rfl ?_
      refine v_icmp_ne (pc := 41) (tgt := 48) C dX2_times_41 rfl (fun hc => ?_) (fun hc => ?_)
      · simp only [if_neg hc] at hf
        refine v_iload (pc := 48) (j := 7) C dX2_times_48 rfl ?_
        refine v_iconst (pc := 50) (v := (3 : Int32)) C dX2_times_50 rfl ?_
        refine v_icmp_ne (pc := 51) (tgt := 58) C dX2_times_51 rfl (fun hc => ?_) (fun hc => ?_)
        · simp only [if_neg hc] at hf
          refine v_iconst (pc := 58) (v := (0 : Int32)) C dX2_times_58 rfl ?_
          exact V.sub [0, 1, 2, 3, 4, 5, 6, 7] rfl (vX2_times_p59 X ih hf)
        · simp only [if_pos (Decidable.of_not_not hc)] at hf
          refine v_iconst (pc := 54) (v := (-1 : Int32)) C dX2_times_54 rfl ?_
          refine v_goto (pc := 55) (tgt := 59) C dX2_times_55 rfl ?_
          exact V.sub [0, 1, 2, 3, 4, 5, 6, 7] rfl (vX2_times_p59 X ih hf)
      · simp only [if_pos (Decidable.of_not_not hc)] at hf
        refine v_iconst (pc := 44) (v := (1 : Int32)) C dX2_times_44 rfl ?_
        refine v_goto (pc := 45) (tgt := 59) C dX2_times_45 rfl ?_
        exact V.sub [0, 1, 2, 3, 4, 5, 6, 7] rfl (vX2_times_p59 X ih hf)
def fX2_times (D : aD) (h : aH) (a0 : Option Nat) (a1 : Int32) (a2 : Int32) : Option (Int32) :=
  (gR h 1 5 a0).bind fun x1 =>
  (aIs h 15 x1).bind fun _ =>
  (fJ2_get D h x1 a1).bind fun x3 =>
  (aCast h [100] x3).bind fun _ =>
  (some ((a2 - a2 / (8 : Int32) * (8 : Int32)))).bind fun x6 =>
  (some ((a2 / (8 : Int32)))).bind fun x7 =>
  fX2_times_p30 D h FU a0 a1 a2 x3 x6 x7 (0 : Int32) (0 : Int32)
theorem vX2_times {h : aH} {a0 : Option Nat} {a1 : Int32} {a2 : Int32} {q : Int32} (X : aX p l R s m meth c D n0 s0 yX2_times cX2_times 3 64 10 (some .int) h0) (hf : fX2_times D h a0 a1 a2 = some q) : V p l e R s m args below meth c D n0 s0 (aEnd D below args s h0 (.inr (some (.int q)), h)) h 0 [(0, false, va_rf a0), (1, false, .int a1), (2, false, .int a2)] [] := by
  have C := X.1
  unfold fX2_times at hf
  refine v_aload_n (pc := 0) (j := 0) C dX2_times_0 rfl rfl ?_
  obtain ⟨x1, ex1, hf⟩ := oB hf
  refine v_getF (pc := 1) C lk_X2_20 (gR_eq ex1) dX2_times_1 ?_
  refine v_iload_n (pc := 4) (j := 1) C dX2_times_4 rfl rfl ?_
  obtain ⟨b2, eb2, hf⟩ := oB hf
  obtain ⟨rb2, _, kb2⟩ := aIs_eq eb2
  obtain ⟨x3, ex3, hf⟩ := oB hf
  refine v_call (pc := 5) (d_V (pc := 5) C (As := [.int a1]) (rest := []) rb2 kb2 nt_15 q2520 yi_J2_get_java_util_ArrayList yk_J2_get rfl (by decide) (by decide) (Nat.le_trans aw_0 (by decide)) rfl (mJ2_get C.st ex3) dX2_times_5) ?_
  obtain ⟨_, e5, hf⟩ := oB hf
  refine v_cast (pc := 8) C q2521 ct__I e5 dX2_times_8 ?_
  refine v_astore_n (pc := 11) (lv' := [(3, false, va_rf x3), (0, false, va_rf a0), (1, false, .int a1), (2, false, .int a2)]) C dX2_times_11 rfl (by decide) rfl ?_
  refine v_iload_n (pc := 12) (j := 3) C dX2_times_12 rfl rfl ?_
  refine v_bipush (pc := 13) (v := (8 : Int32)) C dX2_times_13 rfl ?_
  refine v_irem (pc := 15) C dX2_times_15 (by decide) ?_
  obtain ⟨x6, ex6, hf⟩ := oB hf
  refine vst (Option.some.inj ex6) (fun z => .int z :: []) ?_
  refine v_istore (pc := 16) (lv' := [(4, false, .int x6), (3, false, va_rf x3), (0, false, va_rf a0), (1, false, .int a1), (2, false, .int a2)]) C dX2_times_16 (by decide) rfl ?_
  refine v_iload_n (pc := 18) (j := 4) C dX2_times_18 rfl rfl ?_
  refine v_bipush (pc := 19) (v := (8 : Int32)) C dX2_times_19 rfl ?_
  refine v_idiv (pc := 21) C dX2_times_21 (by decide) ?_
  obtain ⟨x7, ex7, hf⟩ := oB hf
  refine vst (Option.some.inj ex7) (fun z => .int z :: []) ?_
  refine v_istore (pc := 22) (lv' := [(5, false, .int x7), (4, false, .int x6), (3, false, va_rf x3), (0, false, va_rf a0), (1, false, .int a1), (2, false, .int a2)]) C dX2_times_22 (by decide) rfl ?_
  refine v_iconst (pc := 24) (v := (0 : Int32)) C dX2_times_24 rfl ?_
  refine v_istore (pc := 25) (lv' := [(6, false, .int (0 : Int32)), (5, false, .int x7), (4, false, .int x6), (3, false, va_rf x3), (0, false, va_rf a0), (1, false, .int a1), (2, false, .int a2)]) C dX2_times_25 (by decide) rfl ?_
  refine v_iconst (pc := 27) (v := (0 : Int32)) C dX2_times_27 rfl ?_
  refine v_istore (pc := 28) (lv' := [(7, false, .int (0 : Int32)), (6, false, .int (0 : Int32)), (5, false, .int x7), (4, false, .int x6), (3, false, va_rf x3), (0, false, va_rf a0), (1, false, .int a1), (2, false, .int a2)]) C dX2_times_28 (by decide) rfl ?_
  exact V.sub [5, 6, 7, 4, 3, 2, 1, 0] rfl (vX2_times_p30 X _ _ _ _ _ _ _ _ _ _ hf)
theorem mX2_times {l : Launch} {D : aD} {h : aH} {a0 : Option Nat} {a1 : Int32} {a2 : Int32} {q : Int32} (hst : l.stackTraces = false) (hf : fX2_times D h a0 a1 a2 = some q) : aM l D yX2_times cX2_times 10 (some .int) 3 64 [va_rf a0, .int a1, .int a2] h (.inr (some (.int q)), h) :=
  aM.ofX [(false, va_rf a0), (false, .int a1), (false, .int a2)] rfl (ap_r (ap_c rfl (ap_c rfl ap_0))) (by decide +kernel) hst (al_of (aw_r (aw_i (aw_i aw_0))) (by decide)) fun p e s m args below meth c X => V.sub (lv' := [(0, false, va_rf a0), (1, false, .int a1), (2, false, .int a2)]) [0, 1, 2] rfl (vX2_times X hf)
def fX2_seen (D : aD) (h : aH) (a0 : Option Nat) (a1 : Int32) (a2 : Int32) : Option (Int32 × aH) :=
  (pF D h 1 0 a0 (.int (0 : Int32))).bind fun h1 =>
  (aIs h1 1 a0).bind fun _ =>
  (fX2_noPanel D h1 a0 a1).bind fun x3 =>
  if x3 = 0 then
  ((fX2_in D h1 a2 (0 : Int32) (63 : Int32)).bind fun x6 =>
  if x6 = 0 then
  ((aIs h1 1 a0).bind fun _ =>
  bnd2 (fX2_err D h1 a0 (2 : Int32)) fun x9 h10 =>
  some (x9, h10))
  else
  ((aIs h1 1 a0).bind fun _ =>
  (fX2_times D h1 a0 a1 a2).bind fun x12 =>
  some (x12, h1)))
  else
  ((aIs h1 1 a0).bind fun _ =>
  bnd2 (fX2_err D h1 a0 (1 : Int32)) fun x15 h16 =>
  some (x15, h16))
theorem vX2_seen {h : aH} {a0 : Option Nat} {a1 : Int32} {a2 : Int32} {q : Int32} {g : aH} (X : aX p l R s m meth c D n0 s0 yX2_seen cX2_seen 4 93 3 (some .int) h0) (hf : fX2_seen D h a0 a1 a2 = some (q, g)) : V p l e R s m args below meth c D n0 s0 (aEnd D below args s h0 (.inr (some (.int q)), g)) h 0 [(0, false, va_rf a0), (1, false, .int a1), (2, false, .int a2)] [] := by
  have C := X.1
  unfold fX2_seen at hf
  refine v_aload_n (pc := 0) (j := 0) C dX2_seen_0 rfl rfl ?_
  refine v_iconst (pc := 1) (v := (0 : Int32)) C dX2_seen_1 rfl ?_
  obtain ⟨h1, eh1, hf⟩ := oB hf
  refine v_putF (pc := 2) C lk_X2_69 tyX2 tyX2_ok nmX2 (tyX2_ok 0 (by decide)) rfl rfl eh1 dX2_seen_2 ?_
  refine v_aload_n (pc := 5) (j := 0) C dX2_seen_5 rfl rfl ?_
  refine v_iload_n (pc := 6) (j := 1) C dX2_seen_6 rfl rfl ?_
  obtain ⟨b2, eb2, hf⟩ := oB hf
  obtain ⟨rb2, _, kb2⟩ := aIs_eq eb2
  obtain ⟨x3, ex3, hf⟩ := oB hf
  refine v_call (pc := 7) (d_V (pc := 7) C (As := [.int a1]) (rest := []) rb2 kb2 nt_1 q2508 yi_X2_noPanel_FigureSurveyModel yk_X2_noPanel rfl (by decide) (by decide) (Nat.le_trans aw_0 (by decide)) rfl (mX2_noPanel C.st ex3) dX2_seen_7) ?_
  refine v_if_eq (pc := 10) (tgt := 19) C dX2_seen_10 rfl (fun hc => ?_) (fun hc => ?_)
  · rw [if_pos hc] at hf
    refine v_iload_n (pc := 19) (j := 2) C dX2_seen_19 rfl rfl ?_
    refine v_iconst (pc := 20) (v := (0 : Int32)) C dX2_seen_20 rfl ?_
    refine v_bipush (pc := 21) (v := (63 : Int32)) C dX2_seen_21 rfl ?_
    obtain ⟨x6, ex6, hf⟩ := oB hf
    refine v_call (pc := 23) (d_S (pc := 23) C (As := [.int a2, .int (0 : Int32), .int (63 : Int32)]) (rest := []) q2495 q2496 yk_X2_in rfl (by decide) (by decide) (Nat.le_trans aw_0 (by decide)) rfl (mX2_in C.st ex6) dX2_seen_23) ?_
    refine v_if_eq (pc := 26) (tgt := 38) C dX2_seen_26 rfl (fun hc => ?_) (fun hc => ?_)
    · rw [if_pos hc] at hf
      refine v_aload_n (pc := 38) (j := 0) C dX2_seen_38 rfl rfl ?_
      refine v_iconst (pc := 39) (v := (2 : Int32)) C dX2_seen_39 rfl ?_
      obtain ⟨b8, eb8, hf⟩ := oB hf
      obtain ⟨rb8, _, kb8⟩ := aIs_eq eb8
      obtain ⟨x9, h10, ex9, hf⟩ := bnd2_eq hf
      refine v_call (pc := 40) (d_V (pc := 40) C (As := [.int (2 : Int32)]) (rest := []) rb8 kb8 nt_1 q2498 yi_X2_err_FigureSurveyModel yk_X2_err rfl (by decide) (by decide) (Nat.le_trans aw_0 (by decide)) rfl (mX2_err C.st ex9) dX2_seen_40) ?_
      cases hf
      exact v_ireturn (pc := 43) C X.2.1 X.2.2.1 X.2.2.2.1 rfl dX2_seen_43
    · rw [if_neg hc] at hf
      refine v_aload_n (pc := 29) (j := 0) C dX2_seen_29 rfl rfl ?_
      refine v_iload_n (pc := 30) (j := 1) C dX2_seen_30 rfl rfl ?_
      refine v_iload_n (pc := 31) (j := 2) C dX2_seen_31 rfl rfl ?_
      obtain ⟨b11, eb11, hf⟩ := oB hf
      obtain ⟨rb11, _, kb11⟩ := aIs_eq eb11
      obtain ⟨x12, ex12, hf⟩ := oB hf
      refine v_call (pc := 32) (d_V (pc := 32) C (As := [.int a1, .int a2]) (rest := []) rb11 kb11 nt_1 q2531 yi_X2_times_FigureSurveyModel yk_X2_times rfl (by decide) (by decide) (Nat.le_trans aw_0 (by decide)) rfl (mX2_times C.st ex12) dX2_seen_32) ?_
      refine v_goto (pc := 35) (tgt := 43) C dX2_seen_35 rfl ?_
      cases hf
      exact v_ireturn (pc := 43) C X.2.1 X.2.2.1 X.2.2.2.1 rfl dX2_seen_43
  · rw [if_neg hc] at hf
    refine v_aload_n (pc := 13) (j := 0) C dX2_seen_13 rfl rfl ?_
    refine v_iconst (pc := 14) (v := (1 : Int32)) C dX2_seen_14 rfl ?_
    obtain ⟨b14, eb14, hf⟩ := oB hf
    obtain ⟨rb14, _, kb14⟩ := aIs_eq eb14
    obtain ⟨x15, h16, ex15, hf⟩ := bnd2_eq hf
    refine v_call (pc := 15) (d_V (pc := 15) C (As := [.int (1 : Int32)]) (rest := []) rb14 kb14 nt_1 q2498 yi_X2_err_FigureSurveyModel yk_X2_err rfl (by decide) (by decide) (Nat.le_trans aw_0 (by decide)) rfl (mX2_err C.st ex15) dX2_seen_15) ?_
    cases hf
    exact v_ireturn (pc := 18) C X.2.1 X.2.2.1 X.2.2.2.1 rfl dX2_seen_18
theorem mX2_seen {l : Launch} {D : aD} {h : aH} {a0 : Option Nat} {a1 : Int32} {a2 : Int32} {q : Int32} {g : aH} (hst : l.stackTraces = false) (hf : fX2_seen D h a0 a1 a2 = some (q, g)) : aM l D yX2_seen cX2_seen 3 (some .int) 4 93 [va_rf a0, .int a1, .int a2] h (.inr (some (.int q)), g) :=
  aM.ofX [(false, va_rf a0), (false, .int a1), (false, .int a2)] rfl (ap_r (ap_c rfl (ap_c rfl ap_0))) (by decide +kernel) hst (al_of (aw_r (aw_i (aw_i aw_0))) (by decide)) fun p e s m args below meth c X => V.sub (lv' := [(0, false, va_rf a0), (1, false, .int a1), (2, false, .int a2)]) [0, 1, 2] rfl (vX2_seen X hf)
def fX2_often_p30 (D : aD) (h : aH) (K5 : (Option Nat) → Int32 → Int32 → Int64 → Int32 → Option (Int64)) (a0 : Option Nat) (a1 : Int32) (a2 : Int32) (a3 : Int64) (a5 : Int32) : Option (Int64) :=
  K5 a0 a1 a2 a3 (a5 + 1)
theorem vX2_often_p30 {h : aH} {K5 : (Option Nat) → Int32 → Int32 → Int64 → Int32 → Option (Int64)} {a0 : Option Nat} {a1 : Int32} {a2 : Int32} {a3 : Int64} {a5 : Int32} {q : Int64} (X : aX p l R s m meth c D n0 s0 yX2_often cX2_often 4 93 6 (some .long) h0) (k5 : ∀ (a0 : Option Nat) (a1 : Int32) (a2 : Int32) (a3 : Int64) (a5 : Int32) (q : Int64), K5 a0 a1 a2 a3 a5 = some q → V p l e R s m args below meth c D n0 s0 (aEnd D below args s h0 (.inr (some (.long q)), h)) h 5 [(0, false, va_rf a0), (1, false, .int a1), (2, false, .int a2), (3, true, .long a3), (5, false, .int a5)] []) (hf : fX2_often_p30 D h K5 a0 a1 a2 a3 a5 = some q) : V p l e R s m args below meth c D n0 s0 (aEnd D below args s h0 (.inr (some (.long q)), h)) h 30 [(0, false, va_rf a0), (1, false, .int a1), (2, false, .int a2), (3, true, .long a3), (5, false, .int a5)] [] := by
  have C := X.1
  unfold fX2_often_p30 at hf
  refine v_iinc (pc := 30) (j := 4) (v := (a5 + 1)) (lv' := [(5, false, .int (a5 + 1)), (0, false, va_rf a0), (1, false, .int a1), (2, false, .int a2), (3, true, .long a3)]) C dX2_often_30 rfl rfl (by decide) rfl ?_
  refine v_goto (pc := 33) (tgt := 5) C dX2_often_33 rfl ?_
  exact V.sub [1, 2, 3, 4, 0] rfl (k5 _ _ _ _ _ _ hf)
def fX2_often_p36 (D : aD) (h : aH) (a3 : Int64) : Option (Int64) :=
  some a3
theorem vX2_often_p36 {h : aH} {a3 : Int64} {q : Int64} (X : aX p l R s m meth c D n0 s0 yX2_often cX2_often 4 93 6 (some .long) h0) (hf : fX2_often_p36 D h a3 = some q) : V p l e R s m args below meth c D n0 s0 (aEnd D below args s h0 (.inr (some (.long q)), h)) h 36 [(3, true, .long a3)] [] := by
  have C := X.1
  unfold fX2_often_p36 at hf
  refine v_lload_n (pc := 36) (j := 0) C dX2_often_36 rfl rfl ?_
  cases hf
  exact v_lreturn (pc := 37) C X.2.1 X.2.2.1 X.2.2.2.1 rfl dX2_often_37
def fX2_often_p5 (D : aD) (h : aH) : Nat → (Option Nat) → Int32 → Int32 → Int64 → Int32 → Option (Int64)
  | 0, _, _, _, _, _ => none
  | n + 1, a0, a1, a2, a3, a5 =>
  if (64 : Int32) ≤ a5 then
  (fX2_often_p36 D h a3)
  else
  ((aIs h 1 a0).bind fun _ =>
  (fX2_times D h a0 a1 a5).bind fun x2 =>
  if x2 < a2 then
  (fX2_often_p30 D h (fX2_often_p5 D h n) a0 a1 a2 a3 a5)
  else
  ((some ((a3 ||| ((1 : Int64) <<< (a5.toInt64 &&& 63))))).bind fun x4 =>
  fX2_often_p30 D h (fX2_often_p5 D h n) a0 a1 a2 x4 a5))
theorem vX2_often_p5 {h : aH} (X : aX p l R s m meth c D n0 s0 yX2_often cX2_often 4 93 6 (some .long) h0) : ∀ (n : Nat) (a0 : Option Nat) (a1 : Int32) (a2 : Int32) (a3 : Int64) (a5 : Int32) (q : Int64), fX2_often_p5 D h n a0 a1 a2 a3 a5 = some q → V p l e R s m args below meth c D n0 s0 (aEnd D below args s h0 (.inr (some (.long q)), h)) h 5 [(0, false, va_rf a0), (1, false, .int a1), (2, false, .int a2), (3, true, .long a3), (5, false, .int a5)] [] := by
  have C := X.1
  intro n
  induction n with
  | zero =>
    intro _ _ _ _ _ _ hf
    rw [fX2_often_p5] at hf
    cases hf
  | succ n ih =>
    intro a0 a1 a2 a3 a5 q hf
    rw [fX2_often_p5] at hf
    refine v_iload (pc := 5) (j := 4) C dX2_often_5 rfl ?_
    refine v_bipush (pc := 7) (v := (64 : Int32)) C dX2_often_7 rfl ?_
    refine v_icmp_ge (pc := 9) (tgt := 36) C dX2_often_9 rfl (fun hc => ?_) (fun hc => ?_)
    · rw [if_pos hc] at hf
      exact V.sub [3] rfl (vX2_often_p36 X hf)
    · rw [if_neg hc] at hf
      refine v_aload_n (pc := 12) (j := 0) C dX2_often_12 rfl rfl ?_
      refine v_iload_n (pc := 13) (j := 1) C dX2_often_13 rfl rfl ?_
      refine v_iload (pc := 14) (j := 4) C dX2_often_14 rfl ?_
      obtain ⟨b1, eb1, hf⟩ := oB hf
      obtain ⟨rb1, _, kb1⟩ := aIs_eq eb1
      obtain ⟨x2, ex2, hf⟩ := oB hf
      refine v_call (pc := 16) (d_V (pc := 16) C (As := [.int a1, .int a5]) (rest := []) rb1 kb1 nt_1 q2531 yi_X2_times_FigureSurveyModel yk_X2_times rfl (by decide) (by decide) (Nat.le_trans aw_0 (by decide)) rfl (mX2_times C.st ex2) dX2_often_16) ?_
      refine v_iload_n (pc := 19) (j := 2) C dX2_often_19 rfl rfl ?_
      refine v_icmp_lt (pc := 20) (tgt := 30) C dX2_often_20 rfl (fun hc => ?_) (fun hc => ?_)
      · rw [if_pos hc] at hf
        exact V.sub [0, 1, 2, 3, 4] rfl (vX2_often_p30 X ih hf)
      · rw [if_neg hc] at hf
        refine v_lload_n (pc := 23) (j := 3) C dX2_often_23 rfl rfl ?_
        refine v_lconst (pc := 24) (v := (1 : Int64)) C dX2_often_24 rfl ?_
        refine v_iload (pc := 25) (j := 4) C dX2_often_25 rfl ?_
        refine v_lshl (pc := 27) C dX2_often_27 ?_
        refine v_lor (pc := 28) C dX2_often_28 ?_
        obtain ⟨x4, ex4, hf⟩ := oB hf
        refine vst (Option.some.inj ex4) (fun z => .long z :: []) ?_
        refine v_lstore_n (pc := 29) (lv' := [(3, true, .long x4), (0, false, va_rf a0), (1, false, .int a1), (2, false, .int a2), (5, false, .int a5)]) C dX2_often_29 rfl (by decide) rfl ?_
        exact V.sub [1, 2, 3, 0, 4] rfl (vX2_often_p30 X ih hf)
def fX2_often (D : aD) (h : aH) (a0 : Option Nat) (a1 : Int32) (a2 : Int32) : Option (Int64) :=
  fX2_often_p5 D h FU a0 a1 a2 (0 : Int64) (0 : Int32)
theorem vX2_often {h : aH} {a0 : Option Nat} {a1 : Int32} {a2 : Int32} {q : Int64} (X : aX p l R s m meth c D n0 s0 yX2_often cX2_often 4 93 6 (some .long) h0) (hf : fX2_often D h a0 a1 a2 = some q) : V p l e R s m args below meth c D n0 s0 (aEnd D below args s h0 (.inr (some (.long q)), h)) h 0 [(0, false, va_rf a0), (1, false, .int a1), (2, false, .int a2)] [] := by
  have C := X.1
  unfold fX2_often at hf
  refine v_lconst (pc := 0) (v := (0 : Int64)) C dX2_often_0 rfl ?_
  refine v_lstore_n (pc := 1) (lv' := [(3, true, .long (0 : Int64)), (0, false, va_rf a0), (1, false, .int a1), (2, false, .int a2)]) C dX2_often_1 rfl (by decide) rfl ?_
  refine v_iconst (pc := 2) (v := (0 : Int32)) C dX2_often_2 rfl ?_
  refine v_istore (pc := 3) (lv' := [(5, false, .int (0 : Int32)), (3, true, .long (0 : Int64)), (0, false, va_rf a0), (1, false, .int a1), (2, false, .int a2)]) C dX2_often_3 (by decide) rfl ?_
  exact V.sub [2, 3, 4, 1, 0] rfl (vX2_often_p5 X _ _ _ _ _ _ _ hf)
theorem mX2_often {l : Launch} {D : aD} {h : aH} {a0 : Option Nat} {a1 : Int32} {a2 : Int32} {q : Int64} (hst : l.stackTraces = false) (hf : fX2_often D h a0 a1 a2 = some q) : aM l D yX2_often cX2_often 6 (some .long) 4 93 [va_rf a0, .int a1, .int a2] h (.inr (some (.long q)), h) :=
  aM.ofX [(false, va_rf a0), (false, .int a1), (false, .int a2)] rfl (ap_r (ap_c rfl (ap_c rfl ap_0))) (by decide +kernel) hst (al_of (aw_r (aw_i (aw_i aw_0))) (by decide)) fun p e s m args below meth c X => V.sub (lv' := [(0, false, va_rf a0), (1, false, .int a1), (2, false, .int a2)]) [0, 1, 2] rfl (vX2_often X hf)
def fX2_edges (D : aD) (h : aH) (a0 : Option Nat) (a1 : Int32) (a2 : Int32) : Option (Int64 × aH) :=
  (pF D h 1 0 a0 (.int (0 : Int32))).bind fun h1 =>
  (aIs h1 1 a0).bind fun _ =>
  (fX2_noPanel D h1 a0 a1).bind fun x3 =>
  if x3 = 0 then
  ((fX2_in D h1 a2 (1 : Int32) (4 : Int32)).bind fun x6 =>
  if x6 = 0 then
  ((aIs h1 1 a0).bind fun _ =>
  bnd2 (fX2_err D h1 a0 (2 : Int32)) fun x9 h10 =>
  some (x9.toInt64, h10))
  else
  ((aIs h1 1 a0).bind fun _ =>
  (fX2_often D h1 a0 a1 a2).bind fun x12 =>
  some (x12, h1)))
  else
  ((aIs h1 1 a0).bind fun _ =>
  bnd2 (fX2_err D h1 a0 (1 : Int32)) fun x15 h16 =>
  some (x15.toInt64, h16))
theorem vX2_edges {h : aH} {a0 : Option Nat} {a1 : Int32} {a2 : Int32} {q : Int64} {g : aH} (X : aX p l R s m meth c D n0 s0 yX2_edges cX2_edges 5 118 3 (some .long) h0) (hf : fX2_edges D h a0 a1 a2 = some (q, g)) : V p l e R s m args below meth c D n0 s0 (aEnd D below args s h0 (.inr (some (.long q)), g)) h 0 [(0, false, va_rf a0), (1, false, .int a1), (2, false, .int a2)] [] := by
  have C := X.1
  unfold fX2_edges at hf
  refine v_aload_n (pc := 0) (j := 0) C dX2_edges_0 rfl rfl ?_
  refine v_iconst (pc := 1) (v := (0 : Int32)) C dX2_edges_1 rfl ?_
  obtain ⟨h1, eh1, hf⟩ := oB hf
  refine v_putF (pc := 2) C lk_X2_69 tyX2 tyX2_ok nmX2 (tyX2_ok 0 (by decide)) rfl rfl eh1 dX2_edges_2 ?_
  refine v_aload_n (pc := 5) (j := 0) C dX2_edges_5 rfl rfl ?_
  refine v_iload_n (pc := 6) (j := 1) C dX2_edges_6 rfl rfl ?_
  obtain ⟨b2, eb2, hf⟩ := oB hf
  obtain ⟨rb2, _, kb2⟩ := aIs_eq eb2
  obtain ⟨x3, ex3, hf⟩ := oB hf
  refine v_call (pc := 7) (d_V (pc := 7) C (As := [.int a1]) (rest := []) rb2 kb2 nt_1 q2508 yi_X2_noPanel_FigureSurveyModel yk_X2_noPanel rfl (by decide) (by decide) (Nat.le_trans aw_0 (by decide)) rfl (mX2_noPanel C.st ex3) dX2_edges_7) ?_
  refine v_if_eq (pc := 10) (tgt := 20) C dX2_edges_10 rfl (fun hc => ?_) (fun hc => ?_)
  · rw [if_pos hc] at hf
    refine v_iload_n (pc := 20) (j := 2) C dX2_edges_20 rfl rfl ?_
    refine v_iconst (pc := 21) (v := (1 : Int32)) C dX2_edges_21 rfl ?_
    refine v_iconst (pc := 22) (v := (4 : Int32)) C dX2_edges_22 rfl ?_
    obtain ⟨x6, ex6, hf⟩ := oB hf
    refine v_call (pc := 23) (d_S (pc := 23) C (As := [.int a2, .int (1 : Int32), .int (4 : Int32)]) (rest := []) q2495 q2496 yk_X2_in rfl (by decide) (by decide) (Nat.le_trans aw_0 (by decide)) rfl (mX2_in C.st ex6) dX2_edges_23) ?_
    refine v_if_eq (pc := 26) (tgt := 38) C dX2_edges_26 rfl (fun hc => ?_) (fun hc => ?_)
    · rw [if_pos hc] at hf
      refine v_aload_n (pc := 38) (j := 0) C dX2_edges_38 rfl rfl ?_
      refine v_iconst (pc := 39) (v := (2 : Int32)) C dX2_edges_39 rfl ?_
      obtain ⟨b8, eb8, hf⟩ := oB hf
      obtain ⟨rb8, _, kb8⟩ := aIs_eq eb8
      obtain ⟨x9, h10, ex9, hf⟩ := bnd2_eq hf
      refine v_call (pc := 40) (d_V (pc := 40) C (As := [.int (2 : Int32)]) (rest := []) rb8 kb8 nt_1 q2498 yi_X2_err_FigureSurveyModel yk_X2_err rfl (by decide) (by decide) (Nat.le_trans aw_0 (by decide)) rfl (mX2_err C.st ex9) dX2_edges_40) ?_
      refine v_i2l (pc := 43) C dX2_edges_43 ?_
      cases hf
      exact v_lreturn (pc := 44) C X.2.1 X.2.2.1 X.2.2.2.1 rfl dX2_edges_44
    · rw [if_neg hc] at hf
      refine v_aload_n (pc := 29) (j := 0) C dX2_edges_29 rfl rfl ?_
      refine v_iload_n (pc := 30) (j := 1) C dX2_edges_30 rfl rfl ?_
      refine v_iload_n (pc := 31) (j := 2) C dX2_edges_31 rfl rfl ?_
      obtain ⟨b11, eb11, hf⟩ := oB hf
      obtain ⟨rb11, _, kb11⟩ := aIs_eq eb11
      obtain ⟨x12, ex12, hf⟩ := oB hf
      refine v_call (pc := 32) (d_V (pc := 32) C (As := [.int a1, .int a2]) (rest := []) rb11 kb11 nt_1 q2540 yi_X2_often_FigureSurveyModel yk_X2_often rfl (by decide) (by decide) (Nat.le_trans aw_0 (by decide)) rfl (mX2_often C.st ex12) dX2_edges_32) ?_
      refine v_goto (pc := 35) (tgt := 44) C dX2_edges_35 rfl ?_
      cases hf
      exact v_lreturn (pc := 44) C X.2.1 X.2.2.1 X.2.2.2.1 rfl dX2_edges_44
  · rw [if_neg hc] at hf
    refine v_aload_n (pc := 13) (j := 0) C dX2_edges_13 rfl rfl ?_
    refine v_iconst (pc := 14) (v := (1 : Int32)) C dX2_edges_14 rfl ?_
    obtain ⟨b14, eb14, hf⟩ := oB hf
    obtain ⟨rb14, _, kb14⟩ := aIs_eq eb14
    obtain ⟨x15, h16, ex15, hf⟩ := bnd2_eq hf
    refine v_call (pc := 15) (d_V (pc := 15) C (As := [.int (1 : Int32)]) (rest := []) rb14 kb14 nt_1 q2498 yi_X2_err_FigureSurveyModel yk_X2_err rfl (by decide) (by decide) (Nat.le_trans aw_0 (by decide)) rfl (mX2_err C.st ex15) dX2_edges_15) ?_
    refine v_i2l (pc := 18) C dX2_edges_18 ?_
    cases hf
    exact v_lreturn (pc := 19) C X.2.1 X.2.2.1 X.2.2.2.1 rfl dX2_edges_19
theorem mX2_edges {l : Launch} {D : aD} {h : aH} {a0 : Option Nat} {a1 : Int32} {a2 : Int32} {q : Int64} {g : aH} (hst : l.stackTraces = false) (hf : fX2_edges D h a0 a1 a2 = some (q, g)) : aM l D yX2_edges cX2_edges 3 (some .long) 5 118 [va_rf a0, .int a1, .int a2] h (.inr (some (.long q)), g) :=
  aM.ofX [(false, va_rf a0), (false, .int a1), (false, .int a2)] rfl (ap_r (ap_c rfl (ap_c rfl ap_0))) (by decide +kernel) hst (al_of (aw_r (aw_i (aw_i aw_0))) (by decide)) fun p e s m args below meth c X => V.sub (lv' := [(0, false, va_rf a0), (1, false, .int a1), (2, false, .int a2)]) [0, 1, 2] rfl (vX2_edges X hf)
def fX2_addStroke_p51 (D : aD) (h : aH) (a0 : Option Nat) : Option (Int32 × aH) :=
  (aIs h 1 a0).bind fun _ =>
  bnd2 (fX2_err D h a0 (3 : Int32)) fun x2 h3 =>
  some (x2, h3)
theorem vX2_addStroke_p51 {h : aH} {a0 : Option Nat} {q : Int32} {g : aH} (X : aX p l R s m meth c D n0 s0 yX2_addStroke cX2_addStroke 7 152 4 (some .int) h0) (hf : fX2_addStroke_p51 D h a0 = some (q, g)) : V p l e R s m args below meth c D n0 s0 (aEnd D below args s h0 (.inr (some (.int q)), g)) h 51 [(0, false, va_rf a0)] [] := by
  have C := X.1
  unfold fX2_addStroke_p51 at hf
  refine v_aload_n (pc := 51) (j := 0) C dX2_addStroke_51 rfl rfl ?_
  refine v_iconst (pc := 52) (v := (3 : Int32)) C dX2_addStroke_52 rfl ?_
  obtain ⟨b1, eb1, hf⟩ := oB hf
  obtain ⟨rb1, _, kb1⟩ := aIs_eq eb1
  obtain ⟨x2, h3, ex2, hf⟩ := bnd2_eq hf
  refine v_call (pc := 53) (d_V (pc := 53) C (As := [.int (3 : Int32)]) (rest := []) rb1 kb1 nt_1 q2498 yi_X2_err_FigureSurveyModel yk_X2_err rfl (by decide) (by decide) (Nat.le_trans aw_0 (by decide)) rfl (mX2_err C.st ex2) dX2_addStroke_53) ?_
  cases hf
  exact v_ireturn (pc := 56) C X.2.1 X.2.2.1 X.2.2.2.1 rfl dX2_addStroke_56
def fX2_addStroke (D : aD) (h : aH) (a0 : Option Nat) (a1 : Int32) (a2 : Int64) : Option (Int32 × aH) :=
  (pF D h 1 0 a0 (.int (0 : Int32))).bind fun h1 =>
  (aIs h1 1 a0).bind fun _ =>
  (fX2_noPanel D h1 a0 a1).bind fun x3 =>
  if x3 = 0 then
  (if (lg_cmp a2 (0 : Int64)) = 0 then
  ((aIs h1 1 a0).bind fun _ =>
  bnd2 (fX2_err D h1 a0 (2 : Int32)) fun x30 h31 =>
  some (x30, h31))
  else
  ((aIs h1 1 a0).bind fun _ =>
  (fX2_drowned D h1 a0 a1).bind fun x6 =>
  if x6 = 0 then
  ((gR h1 1 7 a0).bind fun x8 =>
  (aIs h1 15 x8).bind fun _ =>
  (fJ2_size D h1 x8).bind fun x10 =>
  if x10 = (60 : Int32) then
  (fX2_addStroke_p51 D h1 a0)
  else
  ((gR h1 1 8 a0).bind fun x12 =>
  (gR h1 1 7 a0).bind fun x13 =>
  (aIs h1 15 x13).bind fun _ =>
  (fJ2_size D h1 x13).bind fun x15 =>
  (sF D h1 101 x12 x15 (.long a2)).bind fun h17 =>
  (gR h17 1 7 a0).bind fun x18 =>
  (aMkA D h17 100 (2 : Int32) (.int 0)).bind fun h19 =>
  (sF D h19 100 (some h17.1) (0 : Int32) (.int a1)).bind fun h20 =>
  (sF D h20 100 (some h17.1) (1 : Int32) (.int (0 : Int32))).bind fun h21 =>
  (aIs h21 15 x18).bind fun _ =>
  bnd2 (fJ2_add D h21 x18 (some h17.1)) fun x23 h24 =>
  (gR h24 1 7 a0).bind fun x25 =>
  (aIs h24 15 x25).bind fun _ =>
  (fJ2_size D h24 x25).bind fun x27 =>
  some ((x27 - (1 : Int32)), h24)))
  else
  (fX2_addStroke_p51 D h1 a0)))
  else
  ((aIs h1 1 a0).bind fun _ =>
  bnd2 (fX2_err D h1 a0 (1 : Int32)) fun x33 h34 =>
  some (x33, h34))
theorem vX2_addStroke {h : aH} {a0 : Option Nat} {a1 : Int32} {a2 : Int64} {q : Int32} {g : aH} (X : aX p l R s m meth c D n0 s0 yX2_addStroke cX2_addStroke 7 152 4 (some .int) h0) (hf : fX2_addStroke D h a0 a1 a2 = some (q, g)) : V p l e R s m args below meth c D n0 s0 (aEnd D below args s h0 (.inr (some (.int q)), g)) h 0 [(0, false, va_rf a0), (1, false, .int a1), (2, true, .long a2)] [] := by
  have C := X.1
  unfold fX2_addStroke at hf
  refine v_aload_n (pc := 0) (j := 0) C dX2_addStroke_0 rfl rfl ?_
  refine v_iconst (pc := 1) (v := (0 : Int32)) C dX2_addStroke_1 rfl ?_
  obtain ⟨h1, eh1, hf⟩ := oB hf
  refine v_putF (pc := 2) C lk_X2_69 tyX2 tyX2_ok nmX2 (tyX2_ok 0 (by decide)) rfl rfl eh1 dX2_addStroke_2 ?_
  refine v_aload_n (pc := 5) (j := 0) C dX2_addStroke_5 rfl rfl ?_
  refine v_iload_n (pc := 6) (j := 1) C dX2_addStroke_6 rfl rfl ?_
  obtain ⟨b2, eb2, hf⟩ := oB hf
  obtain ⟨rb2, _, kb2⟩ := aIs_eq eb2
  obtain ⟨x3, ex3, hf⟩ := oB hf
  refine v_call (pc := 7) (d_V (pc := 7) C (As := [.int a1]) (rest := []) rb2 kb2 nt_1 q2508 yi_X2_noPanel_FigureSurveyModel yk_X2_noPanel rfl (by decide) (by decide) (Nat.le_trans aw_0 (by decide)) rfl (mX2_noPanel C.st ex3) dX2_addStroke_7) ?_
  refine v_if_eq (pc := 10) (tgt := 19) C dX2_addStroke_10 rfl (fun hc => ?_) (fun hc => ?_)
  · rw [if_pos hc] at hf
    refine v_lload_n (pc := 19) (j := 2) C dX2_addStroke_19 rfl rfl ?_
    refine v_lconst (pc := 20) (v := (0 : Int64)) C dX2_addStroke_20 rfl ?_
    refine v_lcmp (pc := 21) C dX2_addStroke_21 ?_
    refine v_if_ne (pc := 22) (tgt := 31) C dX2_addStroke_22 rfl (fun hc => ?_) (fun hc => ?_)
    · rw [if_neg hc] at hf
      refine v_aload_n (pc := 31) (j := 0) C dX2_addStroke_31 rfl rfl ?_
      refine v_iload_n (pc := 32) (j := 1) C dX2_addStroke_32 rfl rfl ?_
      obtain ⟨b5, eb5, hf⟩ := oB hf
      obtain ⟨rb5, _, kb5⟩ := aIs_eq eb5
      obtain ⟨x6, ex6, hf⟩ := oB hf
      refine v_call (pc := 33) (d_V (pc := 33) C (As := [.int a1]) (rest := []) rb5 kb5 nt_1 q2512 yi_X2_drowned_FigureSurveyModel yk_X2_drowned rfl (by decide) (by decide) (Nat.le_trans aw_0 (by decide)) rfl (mX2_drowned C.st ex6) dX2_addStroke_33) ?_
      refine v_if_ne (pc := 36) (tgt := 51) C dX2_addStroke_36 rfl (fun hc => ?_) (fun hc => ?_)
      · rw [if_neg hc] at hf
        exact V.sub [0] rfl (vX2_addStroke_p51 X hf)
      · rw [if_pos (Decidable.of_not_not hc)] at hf
        refine v_aload_n (pc := 39) (j := 0) C dX2_addStroke_39 rfl rfl ?_
        obtain ⟨x8, ex8, hf⟩ := oB hf
        refine v_getF (pc := 40) C lk_X2_27 (gR_eq ex8) dX2_addStroke_40 ?_
        obtain ⟨b9, eb9, hf⟩ := oB hf
        obtain ⟨rb9, _, kb9⟩ := aIs_eq eb9
        obtain ⟨x10, ex10, hf⟩ := oB hf
        refine v_call (pc := 43) (d_V (pc := 43) C (As := []) (rest := []) rb9 kb9 nt_15 q2502 yi_J2_size_java_util_ArrayList yk_J2_size rfl (by decide) (by decide) (Nat.le_trans aw_0 (by decide)) rfl (mJ2_size C.st ex10) dX2_addStroke_43) ?_
        refine v_bipush (pc := 46) (v := (60 : Int32)) C dX2_addStroke_46 rfl ?_
        refine v_icmp_ne (pc := 48) (tgt := 57) C dX2_addStroke_48 rfl (fun hc => ?_) (fun hc => ?_)
        · rw [if_neg hc] at hf
          refine v_aload_n (pc := 57) (j := 0) C dX2_addStroke_57 rfl rfl ?_
          obtain ⟨x12, ex12, hf⟩ := oB hf
          refine v_getF (pc := 58) C lk_X2_30 (gR_eq ex12) dX2_addStroke_58 ?_
          refine v_aload_n (pc := 61) (j := 0) C dX2_addStroke_61 rfl rfl ?_
          obtain ⟨x13, ex13, hf⟩ := oB hf
          refine v_getF (pc := 62) C lk_X2_27 (gR_eq ex13) dX2_addStroke_62 ?_
          obtain ⟨b14, eb14, hf⟩ := oB hf
          obtain ⟨rb14, _, kb14⟩ := aIs_eq eb14
          obtain ⟨x15, ex15, hf⟩ := oB hf
          refine v_call (pc := 65) (d_V (pc := 65) C (As := []) (rest := [va_rf x12]) rb14 kb14 nt_15 q2502 yi_J2_size_java_util_ArrayList yk_J2_size rfl (by decide) (by decide) (Nat.le_trans (aw_r aw_0) (by decide)) rfl (mJ2_size C.st ex15) dX2_addStroke_65) ?_
          refine v_lload_n (pc := 68) (j := 2) C dX2_addStroke_68 rfl rfl ?_
          obtain ⟨h17, eh17, hf⟩ := oB hf
          refine v_lastore (pc := 69) C eh17 dX2_addStroke_69 ?_
          refine v_aload_n (pc := 70) (j := 0) C dX2_addStroke_70 rfl rfl ?_
          obtain ⟨x18, ex18, hf⟩ := oB hf
          refine v_getF (pc := 71) C lk_X2_27 (gR_eq ex18) dX2_addStroke_71 ?_
          refine v_iconst (pc := 74) (v := (2 : Int32)) C dX2_addStroke_74 rfl ?_
          obtain ⟨h19, eh19, hf⟩ := oB hf
          refine v_newarray (pc := 75) (t := 100) (v := .int 0) C q169 rfl rfl (by decide) (by decide) rfl eh19 dX2_addStroke_75 ?_
          refine v_dup (pc := 77) C dX2_addStroke_77 (va_rfc _) ?_
          refine v_iconst (pc := 78) (v := (0 : Int32)) C dX2_addStroke_78 rfl ?_
          refine v_iload_n (pc := 79) (j := 1) C dX2_addStroke_79 rfl rfl ?_
          obtain ⟨h20, eh20, hf⟩ := oB hf
          refine v_iastore (pc := 80) C eh20 dX2_addStroke_80 ?_
          refine v_dup (pc := 81) C dX2_addStroke_81 (va_rfc _) ?_
          refine v_iconst (pc := 82) (v := (1 : Int32)) C dX2_addStroke_82 rfl ?_
          refine v_iconst (pc := 83) (v := (0 : Int32)) C dX2_addStroke_83 rfl ?_
          obtain ⟨h21, eh21, hf⟩ := oB hf
          refine v_iastore (pc := 84) C eh21 dX2_addStroke_84 ?_
          obtain ⟨b22, eb22, hf⟩ := oB hf
          obtain ⟨rb22, _, kb22⟩ := aIs_eq eb22
          obtain ⟨x23, h24, ex23, hf⟩ := bnd2_eq hf
          refine v_call (pc := 85) (d_V (pc := 85) C (As := [va_rf (some h17.1)]) (rest := []) rb22 kb22 nt_15 q2503 yi_J2_add_java_util_ArrayList yk_J2_add rfl (by decide) (by decide) (Nat.le_trans aw_0 (by decide)) rfl (mJ2_add C.st ex23) dX2_addStroke_85) ?_
          refine v_pop (pc := 88) C dX2_addStroke_88 rfl ?_
          refine v_aload_n (pc := 89) (j := 0) C dX2_addStroke_89 rfl rfl ?_
          obtain ⟨x25, ex25, hf⟩ := oB hf
          refine v_getF (pc := 90) C lk_X2_27 (gR_eq ex25) dX2_addStroke_90 ?_
          obtain ⟨b26, eb26, hf⟩ := oB hf
          obtain ⟨rb26, _, kb26⟩ := aIs_eq eb26
          obtain ⟨x27, ex27, hf⟩ := oB hf
          refine v_call (pc := 93) (d_V (pc := 93) C (As := []) (rest := []) rb26 kb26 nt_15 q2502 yi_J2_size_java_util_ArrayList yk_J2_size rfl (by decide) (by decide) (Nat.le_trans aw_0 (by decide)) rfl (mJ2_size C.st ex27) dX2_addStroke_93) ?_
          refine v_iconst (pc := 96) (v := (1 : Int32)) C dX2_addStroke_96 rfl ?_
          refine v_isub (pc := 97) C dX2_addStroke_97 ?_
          cases hf
          exact v_ireturn (pc := 98) C X.2.1 X.2.2.1 X.2.2.2.1 rfl dX2_addStroke_98
        · rw [if_pos (Decidable.of_not_not hc)] at hf
          exact V.sub [0] rfl (vX2_addStroke_p51 X hf)
    · rw [if_pos (Decidable.of_not_not hc)] at hf
      refine v_aload_n (pc := 25) (j := 0) C dX2_addStroke_25 rfl rfl ?_
      refine v_iconst (pc := 26) (v := (2 : Int32)) C dX2_addStroke_26 rfl ?_
      obtain ⟨b29, eb29, hf⟩ := oB hf
      obtain ⟨rb29, _, kb29⟩ := aIs_eq eb29
      obtain ⟨x30, h31, ex30, hf⟩ := bnd2_eq hf
      refine v_call (pc := 27) (d_V (pc := 27) C (As := [.int (2 : Int32)]) (rest := []) rb29 kb29 nt_1 q2498 yi_X2_err_FigureSurveyModel yk_X2_err rfl (by decide) (by decide) (Nat.le_trans aw_0 (by decide)) rfl (mX2_err C.st ex30) dX2_addStroke_27) ?_
      cases hf
      exact v_ireturn (pc := 30) C X.2.1 X.2.2.1 X.2.2.2.1 rfl dX2_addStroke_30
  · rw [if_neg hc] at hf
    refine v_aload_n (pc := 13) (j := 0) C dX2_addStroke_13 rfl rfl ?_
    refine v_iconst (pc := 14) (v := (1 : Int32)) C dX2_addStroke_14 rfl ?_
    obtain ⟨b32, eb32, hf⟩ := oB hf
    obtain ⟨rb32, _, kb32⟩ := aIs_eq eb32
    obtain ⟨x33, h34, ex33, hf⟩ := bnd2_eq hf
    refine v_call (pc := 15) (d_V (pc := 15) C (As := [.int (1 : Int32)]) (rest := []) rb32 kb32 nt_1 q2498 yi_X2_err_FigureSurveyModel yk_X2_err rfl (by decide) (by decide) (Nat.le_trans aw_0 (by decide)) rfl (mX2_err C.st ex33) dX2_addStroke_15) ?_
    cases hf
    exact v_ireturn (pc := 18) C X.2.1 X.2.2.1 X.2.2.2.1 rfl dX2_addStroke_18
theorem mX2_addStroke {l : Launch} {D : aD} {h : aH} {a0 : Option Nat} {a1 : Int32} {a2 : Int64} {q : Int32} {g : aH} (hst : l.stackTraces = false) (hf : fX2_addStroke D h a0 a1 a2 = some (q, g)) : aM l D yX2_addStroke cX2_addStroke 4 (some .int) 7 152 [va_rf a0, .int a1, .long a2] h (.inr (some (.int q)), g) :=
  aM.ofX [(false, va_rf a0), (false, .int a1), (true, .long a2)] rfl (ap_r (ap_c rfl (ap_c rfl ap_0))) (by decide +kernel) hst (al_of (aw_r (aw_i (aw_l aw_0))) (by decide)) fun p e s m args below meth c X => V.sub (lv' := [(0, false, va_rf a0), (1, false, .int a1), (2, true, .long a2)]) [0, 1, 2] rfl (vX2_addStroke X hf)
def fX2_panelOf (D : aD) (h : aH) (a0 : Option Nat) (a1 : Int32) : Option (Int32) :=
  (gR h 1 9 a0).bind fun x1 =>
  (aIs h 15 x1).bind fun _ =>
  (fJ2_get D h x1 a1).bind fun x3 =>
  (aCast h [100] x3).bind fun _ =>
  (eI h x3 (0 : Int32)).bind fun x6 =>
  some x6
theorem vX2_panelOf {h : aH} {a0 : Option Nat} {a1 : Int32} {q : Int32} (X : aX p l R s m meth c D n0 s0 yX2_panelOf cX2_panelOf 3 64 2 (some .int) h0) (hf : fX2_panelOf D h a0 a1 = some q) : V p l e R s m args below meth c D n0 s0 (aEnd D below args s h0 (.inr (some (.int q)), h)) h 0 [(0, false, va_rf a0), (1, false, .int a1)] [] := by
  have C := X.1
  unfold fX2_panelOf at hf
  refine v_aload_n (pc := 0) (j := 0) C dX2_panelOf_0 rfl rfl ?_
  obtain ⟨x1, ex1, hf⟩ := oB hf
  refine v_getF (pc := 1) C lk_X2_33 (gR_eq ex1) dX2_panelOf_1 ?_
  refine v_iload_n (pc := 4) (j := 1) C dX2_panelOf_4 rfl rfl ?_
  obtain ⟨b2, eb2, hf⟩ := oB hf
  obtain ⟨rb2, _, kb2⟩ := aIs_eq eb2
  obtain ⟨x3, ex3, hf⟩ := oB hf
  refine v_call (pc := 5) (d_V (pc := 5) C (As := [.int a1]) (rest := []) rb2 kb2 nt_15 q2520 yi_J2_get_java_util_ArrayList yk_J2_get rfl (by decide) (by decide) (Nat.le_trans aw_0 (by decide)) rfl (mJ2_get C.st ex3) dX2_panelOf_5) ?_
  obtain ⟨_, e5, hf⟩ := oB hf
  refine v_cast (pc := 8) C q2521 ct__I e5 dX2_panelOf_8 ?_
  refine v_iconst (pc := 11) (v := (0 : Int32)) C dX2_panelOf_11 rfl ?_
  obtain ⟨x6, ex6, hf⟩ := oB hf
  refine v_iaload (pc := 12) C ex6 dX2_panelOf_12 ?_
  cases hf
  exact v_ireturn (pc := 13) C X.2.1 X.2.2.1 X.2.2.2.1 rfl dX2_panelOf_13
theorem mX2_panelOf {l : Launch} {D : aD} {h : aH} {a0 : Option Nat} {a1 : Int32} {q : Int32} (hst : l.stackTraces = false) (hf : fX2_panelOf D h a0 a1 = some q) : aM l D yX2_panelOf cX2_panelOf 2 (some .int) 3 64 [va_rf a0, .int a1] h (.inr (some (.int q)), h) :=
  aM.ofX [(false, va_rf a0), (false, .int a1)] rfl (ap_r (ap_c rfl ap_0)) (by decide +kernel) hst (al_of (aw_r (aw_i aw_0)) (by decide)) fun p e s m args below meth c X => V.sub (lv' := [(0, false, va_rf a0), (1, false, .int a1)]) [0, 1] rfl (vX2_panelOf X hf)
def fX2_addFigure_p49 (D : aD) (K23 : aH → (Option Nat) → Int32 → Int32 → Int32 → Option (Int32 × aH)) (h : aH) (a0 : Option Nat) (a1 : Int32) (a3 : Int32) (t0 : Int32) (t1 : Int32) : Option (Int32 × aH) :=
  (some ((t0 + t1))).bind fun x1 =>
  K23 h a0 a1 x1 (a3 + 1)
theorem vX2_addFigure_p49 {h : aH} {K23 : aH → (Option Nat) → Int32 → Int32 → Int32 → Option (Int32 × aH)} {a0 : Option Nat} {a1 : Int32} {a3 : Int32} {t0 : Int32} {t1 : Int32} {q : Int32} {g : aH} (X : aX p l R s m meth c D n0 s0 yX2_addFigure cX2_addFigure 7 152 4 (some .int) h0) (k23 : ∀ (h : aH) (a0 : Option Nat) (a1 : Int32) (a2 : Int32) (a3 : Int32) (q : Int32) (g : aH), K23 h a0 a1 a2 a3 = some (q, g) → V p l e R s m args below meth c D n0 s0 (aEnd D below args s h0 (.inr (some (.int q)), g)) h 23 [(0, false, va_rf a0), (1, false, .int a1), (2, false, .int a2), (3, false, .int a3)] []) (hf : fX2_addFigure_p49 D K23 h a0 a1 a3 t0 t1 = some (q, g)) : V p l e R s m args below meth c D n0 s0 (aEnd D below args s h0 (.inr (some (.int q)), g)) h 49 [(0, false, va_rf a0), (1, false, .int a1), (3, false, .int a3)] [.int t1, .int t0] := by
  have C := X.1
  unfold fX2_addFigure_p49 at hf
  refine v_iadd (pc := 49) C dX2_addFigure_49 ?_
  obtain ⟨x1, ex1, hf⟩ := oB hf
  refine vst (Option.some.inj ex1) (fun z => .int z :: []) ?_
  refine v_istore_n (pc := 50) (lv' := [(2, false, .int x1), (0, false, va_rf a0), (1, false, .int a1), (3, false, .int a3)]) C dX2_addFigure_50 rfl (by decide) rfl ?_
  refine v_iinc (pc := 51) (j := 3) (v := (a3 + 1)) (lv' := [(3, false, .int (a3 + 1)), (2, false, .int x1), (0, false, va_rf a0), (1, false, .int a1)]) C dX2_addFigure_51 rfl rfl (by decide) rfl ?_
  refine v_goto (pc := 54) (tgt := 23) C dX2_addFigure_54 rfl ?_
  exact V.sub [2, 3, 1, 0] rfl (k23 _ _ _ _ _ _ _ hf)
def fX2_addFigure_p75 (D : aD) (h : aH) (a0 : Option Nat) : Option (Int32 × aH) :=
  (aIs h 1 a0).bind fun _ =>
  bnd2 (fX2_err D h a0 (2 : Int32)) fun x2 h3 =>
  some (x2, h3)
theorem vX2_addFigure_p75 {h : aH} {a0 : Option Nat} {q : Int32} {g : aH} (X : aX p l R s m meth c D n0 s0 yX2_addFigure cX2_addFigure 7 152 4 (some .int) h0) (hf : fX2_addFigure_p75 D h a0 = some (q, g)) : V p l e R s m args below meth c D n0 s0 (aEnd D below args s h0 (.inr (some (.int q)), g)) h 75 [(0, false, va_rf a0)] [] := by
  have C := X.1
  unfold fX2_addFigure_p75 at hf
  refine v_aload_n (pc := 75) (j := 0) C dX2_addFigure_75 rfl rfl ?_
  refine v_iconst (pc := 76) (v := (2 : Int32)) C dX2_addFigure_76 rfl ?_
  obtain ⟨b1, eb1, hf⟩ := oB hf
  obtain ⟨rb1, _, kb1⟩ := aIs_eq eb1
  obtain ⟨x2, h3, ex2, hf⟩ := bnd2_eq hf
  refine v_call (pc := 77) (d_V (pc := 77) C (As := [.int (2 : Int32)]) (rest := []) rb1 kb1 nt_1 q2498 yi_X2_err_FigureSurveyModel yk_X2_err rfl (by decide) (by decide) (Nat.le_trans aw_0 (by decide)) rfl (mX2_err C.st ex2) dX2_addFigure_77) ?_
  cases hf
  exact v_ireturn (pc := 80) C X.2.1 X.2.2.1 X.2.2.2.1 rfl dX2_addFigure_80
def fX2_addFigure_p57 (D : aD) (h : aH) (a0 : Option Nat) (a1 : Int32) (a2 : Int32) : Option (Int32 × aH) :=
  (gR h 1 9 a0).bind fun x1 =>
  (aIs h 15 x1).bind fun _ =>
  (fJ2_size D h x1).bind fun x3 =>
  if x3 = (24 : Int32) then
  (fX2_addFigure_p75 D h a0)
  else
  (if a2 = (8 : Int32) then
  (fX2_addFigure_p75 D h a0)
  else
  ((gR h 1 9 a0).bind fun x5 =>
  (aMkA D h 100 (3 : Int32) (.int 0)).bind fun h6 =>
  (sF D h6 100 (some h.1) (0 : Int32) (.int a1)).bind fun h7 =>
  (sF D h7 100 (some h.1) (1 : Int32) (.int (0 : Int32))).bind fun h8 =>
  (sF D h8 100 (some h.1) (2 : Int32) (.int (0 : Int32))).bind fun h9 =>
  (aIs h9 15 x5).bind fun _ =>
  bnd2 (fJ2_add D h9 x5 (some h.1)) fun x11 h12 =>
  (gR h12 1 9 a0).bind fun x13 =>
  (aIs h12 15 x13).bind fun _ =>
  (fJ2_size D h12 x13).bind fun x15 =>
  some ((x15 - (1 : Int32)), h12)))
theorem vX2_addFigure_p57 {h : aH} {a0 : Option Nat} {a1 : Int32} {a2 : Int32} {q : Int32} {g : aH} (X : aX p l R s m meth c D n0 s0 yX2_addFigure cX2_addFigure 7 152 4 (some .int) h0) (hf : fX2_addFigure_p57 D h a0 a1 a2 = some (q, g)) : V p l e R s m args below meth c D n0 s0 (aEnd D below args s h0 (.inr (some (.int q)), g)) h 57 [(0, false, va_rf a0), (1, false, .int a1), (2, false, .int a2)] [] := by
  have C := X.1
  unfold fX2_addFigure_p57 at hf
  refine v_aload_n (pc := 57) (j := 0) C dX2_addFigure_57 rfl rfl ?_
  obtain ⟨x1, ex1, hf⟩ := oB hf
  refine v_getF (pc := 58) C lk_X2_33 (gR_eq ex1) dX2_addFigure_58 ?_
  obtain ⟨b2, eb2, hf⟩ := oB hf
  obtain ⟨rb2, _, kb2⟩ := aIs_eq eb2
  obtain ⟨x3, ex3, hf⟩ := oB hf
  refine v_call (pc := 61) (d_V (pc := 61) C (As := []) (rest := []) rb2 kb2 nt_15 q2502 yi_J2_size_java_util_ArrayList yk_J2_size rfl (by decide) (by decide) (Nat.le_trans aw_0 (by decide)) rfl (mJ2_size C.st ex3) dX2_addFigure_61) ?_
  refine v_bipush (pc := 64) (v := (24 : Int32)) C dX2_addFigure_64 rfl ?_
  refine v_icmp_eq (pc := 66) (tgt := 75) C dX2_addFigure_66 rfl (fun hc => ?_) (fun hc => ?_)
  · rw [if_pos hc] at hf
    exact V.sub [0] rfl (vX2_addFigure_p75 X hf)
  · rw [if_neg hc] at hf
    refine v_iload_n (pc := 69) (j := 2) C dX2_addFigure_69 rfl rfl ?_
    refine v_bipush (pc := 70) (v := (8 : Int32)) C dX2_addFigure_70 rfl ?_
    refine v_icmp_ne (pc := 72) (tgt := 81) C dX2_addFigure_72 rfl (fun hc => ?_) (fun hc => ?_)
    · rw [if_neg hc] at hf
      refine v_aload_n (pc := 81) (j := 0) C dX2_addFigure_81 rfl rfl ?_
      obtain ⟨x5, ex5, hf⟩ := oB hf
      refine v_getF (pc := 82) C lk_X2_33 (gR_eq ex5) dX2_addFigure_82 ?_
      refine v_iconst (pc := 85) (v := (3 : Int32)) C dX2_addFigure_85 rfl ?_
      obtain ⟨h6, eh6, hf⟩ := oB hf
      refine v_newarray (pc := 86) (t := 100) (v := .int 0) C q169 rfl rfl (by decide) (by decide) rfl eh6 dX2_addFigure_86 ?_
      refine v_dup (pc := 88) C dX2_addFigure_88 (va_rfc _) ?_
      refine v_iconst (pc := 89) (v := (0 : Int32)) C dX2_addFigure_89 rfl ?_
      refine v_iload_n (pc := 90) (j := 1) C dX2_addFigure_90 rfl rfl ?_
      obtain ⟨h7, eh7, hf⟩ := oB hf
      refine v_iastore (pc := 91) C eh7 dX2_addFigure_91 ?_
      refine v_dup (pc := 92) C dX2_addFigure_92 (va_rfc _) ?_
      refine v_iconst (pc := 93) (v := (1 : Int32)) C dX2_addFigure_93 rfl ?_
      refine v_iconst (pc := 94) (v := (0 : Int32)) C dX2_addFigure_94 rfl ?_
      obtain ⟨h8, eh8, hf⟩ := oB hf
      refine v_iastore (pc := 95) C eh8 dX2_addFigure_95 ?_
      refine v_dup (pc := 96) C dX2_addFigure_96 (va_rfc _) ?_
      refine v_iconst (pc := 97) (v := (2 : Int32)) C dX2_addFigure_97 rfl ?_
      refine v_iconst (pc := 98) (v := (0 : Int32)) C dX2_addFigure_98 rfl ?_
      obtain ⟨h9, eh9, hf⟩ := oB hf
      refine v_iastore (pc := 99) C eh9 dX2_addFigure_99 ?_
      obtain ⟨b10, eb10, hf⟩ := oB hf
      obtain ⟨rb10, _, kb10⟩ := aIs_eq eb10
      obtain ⟨x11, h12, ex11, hf⟩ := bnd2_eq hf
      refine v_call (pc := 100) (d_V (pc := 100) C (As := [va_rf (some h.1)]) (rest := []) rb10 kb10 nt_15 q2503 yi_J2_add_java_util_ArrayList yk_J2_add rfl (by decide) (by decide) (Nat.le_trans aw_0 (by decide)) rfl (mJ2_add C.st ex11) dX2_addFigure_100) ?_
      refine v_pop (pc := 103) C dX2_addFigure_103 rfl ?_
      refine v_aload_n (pc := 104) (j := 0) C dX2_addFigure_104 rfl rfl ?_
      obtain ⟨x13, ex13, hf⟩ := oB hf
      refine v_getF (pc := 105) C lk_X2_33 (gR_eq ex13) dX2_addFigure_105 ?_
      obtain ⟨b14, eb14, hf⟩ := oB hf
      obtain ⟨rb14, _, kb14⟩ := aIs_eq eb14
      obtain ⟨x15, ex15, hf⟩ := oB hf
      refine v_call (pc := 108) (d_V (pc := 108) C (As := []) (rest := []) rb14 kb14 nt_15 q2502 yi_J2_size_java_util_ArrayList yk_J2_size rfl (by decide) (by decide) (Nat.le_trans aw_0 (by decide)) rfl (mJ2_size C.st ex15) dX2_addFigure_108) ?_
      refine v_iconst (pc := 111) (v := (1 : Int32)) C dX2_addFigure_111 rfl ?_
      refine v_isub (pc := 112) C dX2_addFigure_112 ?_
      cases hf
      exact v_ireturn (pc := 113) C X.2.1 X.2.2.1 X.2.2.2.1 rfl dX2_addFigure_113
    · rw [if_pos (Decidable.of_not_not hc)] at hf
      exact V.sub [0] rfl (vX2_addFigure_p75 X hf)
def fX2_addFigure_p23 (D : aD) : Nat → aH → (Option Nat) → Int32 → Int32 → Int32 → Option (Int32 × aH)
  | 0, _, _, _, _, _ => none
  | n + 1, h, a0, a1, a2, a3 =>
  (gR h 1 9 a0).bind fun x1 =>
  (aIs h 15 x1).bind fun _ =>
  (fJ2_size D h x1).bind fun x3 =>
  if x3 ≤ a3 then
  (fX2_addFigure_p57 D h a0 a1 a2)
  else
  ((aIs h 1 a0).bind fun _ =>
  (fX2_panelOf D h a0 a3).bind fun x6 =>
  fX2_addFigure_p49 D (fX2_addFigure_p23 D n) h a0 a1 a3 a2 (if x6 = a1 then (1 : Int32) else (0 : Int32)))
theorem vX2_addFigure_p23 (X : aX p l R s m meth c D n0 s0 yX2_addFigure cX2_addFigure 7 152 4 (some .int) h0) : ∀ (n : Nat) (h : aH) (a0 : Option Nat) (a1 : Int32) (a2 : Int32) (a3 : Int32) (q : Int32) (g : aH), fX2_addFigure_p23 D n h a0 a1 a2 a3 = some (q, g) → V p l e R s m args below meth c D n0 s0 (aEnd D below args s h0 (.inr (some (.int q)), g)) h 23 [(0, false, va_rf a0), (1, false, .int a1), (2, false, .int a2), (3, false, .int a3)] [] := by
  have C := X.1
  intro n
  induction n with
  | zero =>
    intro _ _ _ _ _ _ _ hf
    rw [fX2_addFigure_p23] at hf
    cases hf
  | succ n ih =>
    intro h a0 a1 a2 a3 q g hf
    rw [fX2_addFigure_p23] at hf
    refine v_iload_n (pc := 23) (j := 3) C dX2_addFigure_23 rfl rfl ?_
    refine v_aload_n (pc := 24) (j := 0) C dX2_addFigure_24 rfl rfl ?_
    obtain ⟨x1, ex1, hf⟩ := oB hf
    refine v_getF (pc := 25) C lk_X2_33 (gR_eq ex1) dX2_addFigure_25 ?_
    obtain ⟨b2, eb2, hf⟩ := oB hf
    obtain ⟨rb2, _, kb2⟩ := aIs_eq eb2
    obtain ⟨x3, ex3, hf⟩ := oB hf
    refine v_call (pc := 28) (d_V (pc := 28) C (As := []) (rest := [.int a3]) rb2 kb2 nt_15 q2502 yi_J2_size_java_util_ArrayList yk_J2_size rfl (by decide) (by decide) (Nat.le_trans (aw_i aw_0) (by decide)) rfl (mJ2_size C.st ex3) dX2_addFigure_28) ?_
    refine v_icmp_ge (pc := 31) (tgt := 57) C dX2_addFigure_31 rfl (fun hc => ?_) (fun hc => ?_)
    · rw [if_pos hc] at hf
      exact V.sub [0, 1, 2] rfl (vX2_addFigure_p57 X hf)
    · rw [if_neg hc] at hf
      refine v_iload_n (pc := 34) (j := 2) C dX2_addFigure_34 rfl rfl ?_
      refine v_aload_n (pc := 35) (j := 0) C dX2_addFigure_35 rfl rfl ?_
      refine v_iload_n (pc := 36) (j := 3) C dX2_addFigure_36 rfl rfl ?_
      obtain ⟨b5, eb5, hf⟩ := oB hf
      obtain ⟨rb5, _, kb5⟩ := aIs_eq eb5
      obtain ⟨x6, ex6, hf⟩ := oB hf
      refine v_call (pc := 37) (d_V (pc := 37) C (As := [.int a3]) (rest := [.int a2]) rb5 kb5 nt_1 q2552 yi_X2_panelOf_FigureSurveyModel yk_X2_panelOf rfl (by decide) (by decide) (Nat.le_trans (aw_i aw_0) (by decide)) rfl (mX2_panelOf C.st ex6) dX2_addFigure_37) ?_
      refine v_iload_n (pc := 40) (j := 1) C dX2_addFigure_40 rfl rfl ?_
      refine v_icmp_ne (pc := 41) (tgt := 48) C dX2_addFigure_41 rfl (fun hc => ?_) (fun hc => ?_)
      · simp only [if_neg hc] at hf
        refine v_iconst (pc := 48) (v := (0 : Int32)) C dX2_addFigure_48 rfl ?_
        exact V.sub [0, 1, 3] rfl (vX2_addFigure_p49 X ih hf)
      · simp only [if_pos (Decidable.of_not_not hc)] at hf
        refine v_iconst (pc := 44) (v := (1 : Int32)) C dX2_addFigure_44 rfl ?_
        refine v_goto (pc := 45) (tgt := 49) C dX2_addFigure_45 rfl ?_
        exact V.sub [0, 1, 3] rfl (vX2_addFigure_p49 X ih hf)
def fX2_addFigure (D : aD) (h : aH) (a0 : Option Nat) (a1 : Int32) : Option (Int32 × aH) :=
  (pF D h 1 0 a0 (.int (0 : Int32))).bind fun h1 =>
  (aIs h1 1 a0).bind fun _ =>
  (fX2_noPanel D h1 a0 a1).bind fun x3 =>
  if x3 = 0 then
  (fX2_addFigure_p23 D FU h1 a0 a1 (0 : Int32) (0 : Int32))
  else
  ((aIs h1 1 a0).bind fun _ =>
  bnd2 (fX2_err D h1 a0 (1 : Int32)) fun x6 h7 =>
  some (x6, h7))
theorem vX2_addFigure {h : aH} {a0 : Option Nat} {a1 : Int32} {q : Int32} {g : aH} (X : aX p l R s m meth c D n0 s0 yX2_addFigure cX2_addFigure 7 152 4 (some .int) h0) (hf : fX2_addFigure D h a0 a1 = some (q, g)) : V p l e R s m args below meth c D n0 s0 (aEnd D below args s h0 (.inr (some (.int q)), g)) h 0 [(0, false, va_rf a0), (1, false, .int a1)] [] := by
  have C := X.1
  unfold fX2_addFigure at hf
  refine v_aload_n (pc := 0) (j := 0) C dX2_addFigure_0 rfl rfl ?_
  refine v_iconst (pc := 1) (v := (0 : Int32)) C dX2_addFigure_1 rfl ?_
  obtain ⟨h1, eh1, hf⟩ := oB hf
  refine v_putF (pc := 2) C lk_X2_69 tyX2 tyX2_ok nmX2 (tyX2_ok 0 (by decide)) rfl rfl eh1 dX2_addFigure_2 ?_
  refine v_aload_n (pc := 5) (j := 0) C dX2_addFigure_5 rfl rfl ?_
  refine v_iload_n (pc := 6) (j := 1) C dX2_addFigure_6 rfl rfl ?_
  obtain ⟨b2, eb2, hf⟩ := oB hf
  obtain ⟨rb2, _, kb2⟩ := aIs_eq eb2
  obtain ⟨x3, ex3, hf⟩ := oB hf
  refine v_call (pc := 7) (d_V (pc := 7) C (As := [.int a1]) (rest := []) rb2 kb2 nt_1 q2508 yi_X2_noPanel_FigureSurveyModel yk_X2_noPanel rfl (by decide) (by decide) (Nat.le_trans aw_0 (by decide)) rfl (mX2_noPanel C.st ex3) dX2_addFigure_7) ?_
  refine v_if_eq (pc := 10) (tgt := 19) C dX2_addFigure_10 rfl (fun hc => ?_) (fun hc => ?_)
  · rw [if_pos hc] at hf
    refine v_iconst (pc := 19) (v := (0 : Int32)) C dX2_addFigure_19 rfl ?_
    refine v_istore_n (pc := 20) (lv' := [(2, false, .int (0 : Int32)), (0, false, va_rf a0), (1, false, .int a1)]) C dX2_addFigure_20 rfl (by decide) rfl ?_
    refine v_iconst (pc := 21) (v := (0 : Int32)) C dX2_addFigure_21 rfl ?_
    refine v_istore_n (pc := 22) (lv' := [(3, false, .int (0 : Int32)), (2, false, .int (0 : Int32)), (0, false, va_rf a0), (1, false, .int a1)]) C dX2_addFigure_22 rfl (by decide) rfl ?_
    exact V.sub [2, 3, 1, 0] rfl (vX2_addFigure_p23 X _ _ _ _ _ _ _ _ hf)
  · rw [if_neg hc] at hf
    refine v_aload_n (pc := 13) (j := 0) C dX2_addFigure_13 rfl rfl ?_
    refine v_iconst (pc := 14) (v := (1 : Int32)) C dX2_addFigure_14 rfl ?_
    obtain ⟨b5, eb5, hf⟩ := oB hf
    obtain ⟨rb5, _, kb5⟩ := aIs_eq eb5
    obtain ⟨x6, h7, ex6, hf⟩ := bnd2_eq hf
    refine v_call (pc := 15) (d_V (pc := 15) C (As := [.int (1 : Int32)]) (rest := []) rb5 kb5 nt_1 q2498 yi_X2_err_FigureSurveyModel yk_X2_err rfl (by decide) (by decide) (Nat.le_trans aw_0 (by decide)) rfl (mX2_err C.st ex6) dX2_addFigure_15) ?_
    cases hf
    exact v_ireturn (pc := 18) C X.2.1 X.2.2.1 X.2.2.2.1 rfl dX2_addFigure_18
theorem mX2_addFigure {l : Launch} {D : aD} {h : aH} {a0 : Option Nat} {a1 : Int32} {q : Int32} {g : aH} (hst : l.stackTraces = false) (hf : fX2_addFigure D h a0 a1 = some (q, g)) : aM l D yX2_addFigure cX2_addFigure 4 (some .int) 7 152 [va_rf a0, .int a1] h (.inr (some (.int q)), g) :=
  aM.ofX [(false, va_rf a0), (false, .int a1)] rfl (ap_r (ap_c rfl ap_0)) (by decide +kernel) hst (al_of (aw_r (aw_i aw_0)) (by decide)) fun p e s m args below meth c X => V.sub (lv' := [(0, false, va_rf a0), (1, false, .int a1)]) [0, 1] rfl (vX2_addFigure X hf)
def fX2_noFigure (D : aD) (h : aH) (a0 : Option Nat) (a1 : Int32) : Option (Int32) :=
  (gR h 1 9 a0).bind fun x1 =>
  (aIs h 15 x1).bind fun _ =>
  (fJ2_size D h x1).bind fun x3 =>
  (fX2_in D h a1 (0 : Int32) (x3 - (1 : Int32))).bind fun x6 =>
  if x6 = 0 then
  (some (1 : Int32))
  else
  (some (0 : Int32))
theorem vX2_noFigure {h : aH} {a0 : Option Nat} {a1 : Int32} {q : Int32} (X : aX p l R s m meth c D n0 s0 yX2_noFigure cX2_noFigure 1 22 2 (some .boolean) h0) (hf : fX2_noFigure D h a0 a1 = some q) : V p l e R s m args below meth c D n0 s0 (aEnd D below args s h0 (.inr (some (.int q)), h)) h 0 [(0, false, va_rf a0), (1, false, .int a1)] [] := by
  have C := X.1
  unfold fX2_noFigure at hf
  refine v_iload_n (pc := 0) (j := 1) C dX2_noFigure_0 rfl rfl ?_
  refine v_iconst (pc := 1) (v := (0 : Int32)) C dX2_noFigure_1 rfl ?_
  refine v_aload_n (pc := 2) (j := 0) C dX2_noFigure_2 rfl rfl ?_
  obtain ⟨x1, ex1, hf⟩ := oB hf
  refine v_getF (pc := 3) C lk_X2_33 (gR_eq ex1) dX2_noFigure_3 ?_
  obtain ⟨b2, eb2, hf⟩ := oB hf
  obtain ⟨rb2, _, kb2⟩ := aIs_eq eb2
  obtain ⟨x3, ex3, hf⟩ := oB hf
  refine v_call (pc := 6) (d_V (pc := 6) C (As := []) (rest := [.int (0 : Int32), .int a1]) rb2 kb2 nt_15 q2502 yi_J2_size_java_util_ArrayList yk_J2_size rfl (by decide) (by decide) (Nat.le_trans (aw_i (aw_i aw_0)) (by decide)) rfl (mJ2_size C.st ex3) dX2_noFigure_6) ?_
  refine v_iconst (pc := 9) (v := (1 : Int32)) C dX2_noFigure_9 rfl ?_
  refine v_isub (pc := 10) C dX2_noFigure_10 ?_
  obtain ⟨x6, ex6, hf⟩ := oB hf
  refine v_call (pc := 11) (d_S (pc := 11) C (As := [.int a1, .int (0 : Int32), .int (x3 - (1 : Int32))]) (rest := []) q2495 q2496 yk_X2_in rfl (by decide) (by decide) (Nat.le_trans aw_0 (by decide)) rfl (mX2_in C.st ex6) dX2_noFigure_11) ?_
  refine v_if_ne (pc := 14) (tgt := 21) C dX2_noFigure_14 rfl (fun hc => ?_) (fun hc => ?_)
  · rw [if_neg hc] at hf
    refine v_iconst (pc := 21) (v := (0 : Int32)) C dX2_noFigure_21 rfl ?_
    cases hf
    exact v_zreturn (pc := 22) C X.2.1 X.2.2.1 X.2.2.2.1 (by decide) rfl dX2_noFigure_22
  · rw [if_pos (Decidable.of_not_not hc)] at hf
    refine v_iconst (pc := 17) (v := (1 : Int32)) C dX2_noFigure_17 rfl ?_
    refine v_goto (pc := 18) (tgt := 22) C dX2_noFigure_18 rfl ?_
    cases hf
    exact v_zreturn (pc := 22) C X.2.1 X.2.2.1 X.2.2.2.1 (by decide) rfl dX2_noFigure_22
theorem mX2_noFigure {l : Launch} {D : aD} {h : aH} {a0 : Option Nat} {a1 : Int32} {q : Int32} (hst : l.stackTraces = false) (hf : fX2_noFigure D h a0 a1 = some q) : aM l D yX2_noFigure cX2_noFigure 2 (some .boolean) 1 22 [va_rf a0, .int a1] h (.inr (some (.int q)), h) :=
  aM.ofX [(false, va_rf a0), (false, .int a1)] rfl (ap_r (ap_c rfl ap_0)) (by decide +kernel) hst (al_of (aw_r (aw_i aw_0)) (by decide)) fun p e s m args below meth c X => V.sub (lv' := [(0, false, va_rf a0), (1, false, .int a1)]) [0, 1] rfl (vX2_noFigure X hf)
def fX2_noStroke (D : aD) (h : aH) (a0 : Option Nat) (a1 : Int32) : Option (Int32) :=
  (gR h 1 7 a0).bind fun x1 =>
  (aIs h 15 x1).bind fun _ =>
  (fJ2_size D h x1).bind fun x3 =>
  (fX2_in D h a1 (0 : Int32) (x3 - (1 : Int32))).bind fun x6 =>
  if x6 = 0 then
  (some (1 : Int32))
  else
  (some (0 : Int32))
theorem vX2_noStroke {h : aH} {a0 : Option Nat} {a1 : Int32} {q : Int32} (X : aX p l R s m meth c D n0 s0 yX2_noStroke cX2_noStroke 1 22 2 (some .boolean) h0) (hf : fX2_noStroke D h a0 a1 = some q) : V p l e R s m args below meth c D n0 s0 (aEnd D below args s h0 (.inr (some (.int q)), h)) h 0 [(0, false, va_rf a0), (1, false, .int a1)] [] := by
  have C := X.1
  unfold fX2_noStroke at hf
  refine v_iload_n (pc := 0) (j := 1) C dX2_noStroke_0 rfl rfl ?_
  refine v_iconst (pc := 1) (v := (0 : Int32)) C dX2_noStroke_1 rfl ?_
  refine v_aload_n (pc := 2) (j := 0) C dX2_noStroke_2 rfl rfl ?_
  obtain ⟨x1, ex1, hf⟩ := oB hf
  refine v_getF (pc := 3) C lk_X2_27 (gR_eq ex1) dX2_noStroke_3 ?_
  obtain ⟨b2, eb2, hf⟩ := oB hf
  obtain ⟨rb2, _, kb2⟩ := aIs_eq eb2
  obtain ⟨x3, ex3, hf⟩ := oB hf
  refine v_call (pc := 6) (d_V (pc := 6) C (As := []) (rest := [.int (0 : Int32), .int a1]) rb2 kb2 nt_15 q2502 yi_J2_size_java_util_ArrayList yk_J2_size rfl (by decide) (by decide) (Nat.le_trans (aw_i (aw_i aw_0)) (by decide)) rfl (mJ2_size C.st ex3) dX2_noStroke_6) ?_
  refine v_iconst (pc := 9) (v := (1 : Int32)) C dX2_noStroke_9 rfl ?_
  refine v_isub (pc := 10) C dX2_noStroke_10 ?_
  obtain ⟨x6, ex6, hf⟩ := oB hf
  refine v_call (pc := 11) (d_S (pc := 11) C (As := [.int a1, .int (0 : Int32), .int (x3 - (1 : Int32))]) (rest := []) q2495 q2496 yk_X2_in rfl (by decide) (by decide) (Nat.le_trans aw_0 (by decide)) rfl (mX2_in C.st ex6) dX2_noStroke_11) ?_
  refine v_if_ne (pc := 14) (tgt := 21) C dX2_noStroke_14 rfl (fun hc => ?_) (fun hc => ?_)
  · rw [if_neg hc] at hf
    refine v_iconst (pc := 21) (v := (0 : Int32)) C dX2_noStroke_21 rfl ?_
    cases hf
    exact v_zreturn (pc := 22) C X.2.1 X.2.2.1 X.2.2.2.1 (by decide) rfl dX2_noStroke_22
  · rw [if_pos (Decidable.of_not_not hc)] at hf
    refine v_iconst (pc := 17) (v := (1 : Int32)) C dX2_noStroke_17 rfl ?_
    refine v_goto (pc := 18) (tgt := 22) C dX2_noStroke_18 rfl ?_
    cases hf
    exact v_zreturn (pc := 22) C X.2.1 X.2.2.1 X.2.2.2.1 (by decide) rfl dX2_noStroke_22
theorem mX2_noStroke {l : Launch} {D : aD} {h : aH} {a0 : Option Nat} {a1 : Int32} {q : Int32} (hst : l.stackTraces = false) (hf : fX2_noStroke D h a0 a1 = some q) : aM l D yX2_noStroke cX2_noStroke 2 (some .boolean) 1 22 [va_rf a0, .int a1] h (.inr (some (.int q)), h) :=
  aM.ofX [(false, va_rf a0), (false, .int a1)] rfl (ap_r (ap_c rfl ap_0)) (by decide +kernel) hst (al_of (aw_r (aw_i aw_0)) (by decide)) fun p e s m args below meth c X => V.sub (lv' := [(0, false, va_rf a0), (1, false, .int a1)]) [0, 1] rfl (vX2_noStroke X hf)
def fX2_setStroke_p21 (D : aD) (h : aH) (a0 : Option Nat) : Option (Int32 × aH) :=
  (aIs h 1 a0).bind fun _ =>
  bnd2 (fX2_err D h a0 (1 : Int32)) fun x2 h3 =>
  some (x2, h3)
theorem vX2_setStroke_p21 {h : aH} {a0 : Option Nat} {q : Int32} {g : aH} (X : aX p l R s m meth c D n0 s0 yX2_setStroke cX2_setStroke 4 85 6 (some .int) h0) (hf : fX2_setStroke_p21 D h a0 = some (q, g)) : V p l e R s m args below meth c D n0 s0 (aEnd D below args s h0 (.inr (some (.int q)), g)) h 21 [(0, false, va_rf a0)] [] := by
  have C := X.1
  unfold fX2_setStroke_p21 at hf
  refine v_aload_n (pc := 21) (j := 0) C dX2_setStroke_21 rfl rfl ?_
  refine v_iconst (pc := 22) (v := (1 : Int32)) C dX2_setStroke_22 rfl ?_
  obtain ⟨b1, eb1, hf⟩ := oB hf
  obtain ⟨rb1, _, kb1⟩ := aIs_eq eb1
  obtain ⟨x2, h3, ex2, hf⟩ := bnd2_eq hf
  refine v_call (pc := 23) (d_V (pc := 23) C (As := [.int (1 : Int32)]) (rest := []) rb1 kb1 nt_1 q2498 yi_X2_err_FigureSurveyModel yk_X2_err rfl (by decide) (by decide) (Nat.le_trans aw_0 (by decide)) rfl (mX2_err C.st ex2) dX2_setStroke_23) ?_
  cases hf
  exact v_ireturn (pc := 26) C X.2.1 X.2.2.1 X.2.2.2.1 rfl dX2_setStroke_26
def fX2_setStroke_p118 (D : aD) (K87 : aH → (Option Nat) → Int32 → Int32 → Int32 → Option (Int32 × aH)) (h : aH) (a0 : Option Nat) (a1 : Int32) (a5 : Int32) (t0 : Int32) (t1 : Int32) : Option (Int32 × aH) :=
  (some ((t0 + t1))).bind fun x1 =>
  K87 h a0 a1 x1 (a5 + 1)
theorem vX2_setStroke_p118 {h : aH} {K87 : aH → (Option Nat) → Int32 → Int32 → Int32 → Option (Int32 × aH)} {a0 : Option Nat} {a1 : Int32} {a5 : Int32} {t0 : Int32} {t1 : Int32} {q : Int32} {g : aH} (X : aX p l R s m meth c D n0 s0 yX2_setStroke cX2_setStroke 4 85 6 (some .int) h0) (k87 : ∀ (h : aH) (a0 : Option Nat) (a1 : Int32) (a4 : Int32) (a5 : Int32) (q : Int32) (g : aH), K87 h a0 a1 a4 a5 = some (q, g) → V p l e R s m args below meth c D n0 s0 (aEnd D below args s h0 (.inr (some (.int q)), g)) h 87 [(0, false, va_rf a0), (1, false, .int a1), (4, false, .int a4), (5, false, .int a5)] []) (hf : fX2_setStroke_p118 D K87 h a0 a1 a5 t0 t1 = some (q, g)) : V p l e R s m args below meth c D n0 s0 (aEnd D below args s h0 (.inr (some (.int q)), g)) h 118 [(0, false, va_rf a0), (1, false, .int a1), (5, false, .int a5)] [.int t1, .int t0] := by
  have C := X.1
  unfold fX2_setStroke_p118 at hf
  refine v_iadd (pc := 118) C dX2_setStroke_118 ?_
  obtain ⟨x1, ex1, hf⟩ := oB hf
  refine vst (Option.some.inj ex1) (fun z => .int z :: []) ?_
  refine v_istore (pc := 119) (lv' := [(4, false, .int x1), (0, false, va_rf a0), (1, false, .int a1), (5, false, .int a5)]) C dX2_setStroke_119 (by decide) rfl ?_
  refine v_iinc (pc := 121) (j := 3) (v := (a5 + 1)) (lv' := [(5, false, .int (a5 + 1)), (4, false, .int x1), (0, false, va_rf a0), (1, false, .int a1)]) C dX2_setStroke_121 rfl rfl (by decide) rfl ?_
  refine v_goto (pc := 124) (tgt := 87) C dX2_setStroke_124 rfl ?_
  exact V.sub [2, 3, 1, 0] rfl (k87 _ _ _ _ _ _ _ hf)
def fX2_setStroke_p87 (D : aD) : Nat → aH → (Option Nat) → Int32 → Int32 → Int32 → Option (Int32 × aH)
  | 0, _, _, _, _, _ => none
  | n + 1, h, a0, a1, a4, a5 =>
  (gR h 1 7 a0).bind fun x1 =>
  (aIs h 15 x1).bind fun _ =>
  (fJ2_size D h x1).bind fun x3 =>
  if x3 ≤ a5 then
  (some (a4, h))
  else
  ((gR h 1 10 a0).bind fun x5 =>
  (eR h x5 a1).bind fun x6 =>
  (eZ h x6 a5).bind fun x7 =>
  fX2_setStroke_p118 D (fX2_setStroke_p87 D n) h a0 a1 a5 a4 (if x7 = 0 then (0 : Int32) else (1 : Int32)))
theorem vX2_setStroke_p87 (X : aX p l R s m meth c D n0 s0 yX2_setStroke cX2_setStroke 4 85 6 (some .int) h0) : ∀ (n : Nat) (h : aH) (a0 : Option Nat) (a1 : Int32) (a4 : Int32) (a5 : Int32) (q : Int32) (g : aH), fX2_setStroke_p87 D n h a0 a1 a4 a5 = some (q, g) → V p l e R s m args below meth c D n0 s0 (aEnd D below args s h0 (.inr (some (.int q)), g)) h 87 [(0, false, va_rf a0), (1, false, .int a1), (4, false, .int a4), (5, false, .int a5)] [] := by
  have C := X.1
  intro n
  induction n with
  | zero =>
    intro _ _ _ _ _ _ _ hf
    rw [fX2_setStroke_p87] at hf
    cases hf
  | succ n ih =>
    intro h a0 a1 a4 a5 q g hf
    rw [fX2_setStroke_p87] at hf
    refine v_iload (pc := 87) (j := 3) C dX2_setStroke_87 rfl ?_
    refine v_aload_n (pc := 89) (j := 0) C dX2_setStroke_89 rfl rfl ?_
    obtain ⟨x1, ex1, hf⟩ := oB hf
    refine v_getF (pc := 90) C lk_X2_27 (gR_eq ex1) dX2_setStroke_90 ?_
    obtain ⟨b2, eb2, hf⟩ := oB hf
    obtain ⟨rb2, _, kb2⟩ := aIs_eq eb2
    obtain ⟨x3, ex3, hf⟩ := oB hf
    refine v_call (pc := 93) (d_V (pc := 93) C (As := []) (rest := [.int a5]) rb2 kb2 nt_15 q2502 yi_J2_size_java_util_ArrayList yk_J2_size rfl (by decide) (by decide) (Nat.le_trans (aw_i aw_0) (by decide)) rfl (mJ2_size C.st ex3) dX2_setStroke_93) ?_
    refine v_icmp_ge (pc := 96) (tgt := 127) C dX2_setStroke_96 rfl (fun hc => ?_) (fun hc => ?_)
    · rw [if_pos hc] at hf
      refine v_iload (pc := 127) (j := 2) C dX2_setStroke_127 rfl ?_
      cases hf
      exact v_ireturn (pc := 129) C X.2.1 X.2.2.1 X.2.2.2.1 rfl dX2_setStroke_129
    · rw [if_neg hc] at hf
      refine v_iload (pc := 99) (j := 2) C dX2_setStroke_99 rfl ?_
      refine v_aload_n (pc := 101) (j := 0) C dX2_setStroke_101 rfl rfl ?_
      obtain ⟨x5, ex5, hf⟩ := oB hf
      refine v_getF (pc := 102) C lk_X2_38 (gR_eq ex5) dX2_setStroke_102 ?_
      refine v_iload_n (pc := 105) (j := 1) C dX2_setStroke_105 rfl rfl ?_
      obtain ⟨x6, ex6, hf⟩ := oB hf
      refine v_aaload (pc := 106) C ex6 dX2_setStroke_106 ?_
      refine v_iload (pc := 107) (j := 3) C dX2_setStroke_107 rfl ?_
      obtain ⟨x7, ex7, hf⟩ := oB hf
      refine v_baload (pc := 109) C ex7 dX2_setStroke_109 ?_
      refine v_if_eq (pc := 110) (tgt := 117) C dX2_setStroke_110 rfl (fun hc => ?_) (fun hc => ?_)
      · simp only [if_pos hc] at hf
        refine v_iconst (pc := 117) (v := (0 : Int32)) C dX2_setStroke_117 rfl ?_
        exact V.sub [0, 1, 3] rfl (vX2_setStroke_p118 X ih hf)
      · simp only [if_neg hc] at hf
        refine v_iconst (pc := 113) (v := (1 : Int32)) C dX2_setStroke_113 rfl ?_
        refine v_goto (pc := 114) (tgt := 118) C dX2_setStroke_114 rfl ?_
        exact V.sub [0, 1, 3] rfl (vX2_setStroke_p118 X ih hf)
def fX2_setStroke (D : aD) (h : aH) (a0 : Option Nat) (a1 : Int32) (a2 : Int32) (a3 : Int32) : Option (Int32 × aH) :=
  (pF D h 1 0 a0 (.int (0 : Int32))).bind fun h1 =>
  (aIs h1 1 a0).bind fun _ =>
  (fX2_noFigure D h1 a0 a1).bind fun x3 =>
  if x3 = 0 then
  ((aIs h1 1 a0).bind fun _ =>
  (fX2_noStroke D h1 a0 a2).bind fun x6 =>
  if x6 = 0 then
  ((aIs h1 1 a0).bind fun _ =>
  (fX2_panelOf D h1 a0 a1).bind fun x9 =>
  (gR h1 1 7 a0).bind fun x11 =>
  (aIs h1 15 x11).bind fun _ =>
  (fJ2_get D h1 x11 a2).bind fun x13 =>
  (aCast h1 [100] x13).bind fun _ =>
  (eI h1 x13 (0 : Int32)).bind fun x16 =>
  if x9 = x16 then
  ((gR h1 1 10 a0).bind fun x17 =>
  (eR h1 x17 a1).bind fun x18 =>
  (eZ h1 x18 a2).bind fun x19 =>
  if x19 = a3 then
  ((aIs h1 1 a0).bind fun _ =>
  bnd2 (fX2_err D h1 a0 (3 : Int32)) fun x24 h25 =>
  some (x24, h25))
  else
  ((gR h1 1 10 a0).bind fun x20 =>
  (eR h1 x20 a1).bind fun x21 =>
  (ckZ a3).bind fun _ =>
  (sF D h1 102 x21 a2 (.int a3)).bind fun h22 =>
  fX2_setStroke_p87 D FU h22 a0 a1 (0 : Int32) (0 : Int32)))
  else
  ((aIs h1 1 a0).bind fun _ =>
  bnd2 (fX2_err D h1 a0 (2 : Int32)) fun x27 h28 =>
  some (x27, h28)))
  else
  (fX2_setStroke_p21 D h1 a0))
  else
  (fX2_setStroke_p21 D h1 a0)
theorem vX2_setStroke {h : aH} {a0 : Option Nat} {a1 : Int32} {a2 : Int32} {a3 : Int32} {q : Int32} {g : aH} (X : aX p l R s m meth c D n0 s0 yX2_setStroke cX2_setStroke 4 85 6 (some .int) h0) (hf : fX2_setStroke D h a0 a1 a2 a3 = some (q, g)) : V p l e R s m args below meth c D n0 s0 (aEnd D below args s h0 (.inr (some (.int q)), g)) h 0 [(0, false, va_rf a0), (1, false, .int a1), (2, false, .int a2), (3, false, .int a3)] [] := by
  have C := X.1
  unfold fX2_setStroke at hf
  refine v_aload_n (pc := 0) (j := 0) C dX2_setStroke_0 rfl rfl ?_
  refine v_iconst (pc := 1) (v := (0 : Int32)) C dX2_setStroke_1 rfl ?_
  obtain ⟨h1, eh1, hf⟩ := oB hf
  refine v_putF (pc := 2) C lk_X2_69 tyX2 tyX2_ok nmX2 (tyX2_ok 0 (by decide)) rfl rfl eh1 dX2_setStroke_2 ?_
  refine v_aload_n (pc := 5) (j := 0) C dX2_setStroke_5 rfl rfl ?_
  refine v_iload_n (pc := 6) (j := 1) C dX2_setStroke_6 rfl rfl ?_
  obtain ⟨b2, eb2, hf⟩ := oB hf
  obtain ⟨rb2, _, kb2⟩ := aIs_eq eb2
  obtain ⟨x3, ex3, hf⟩ := oB hf
  refine v_call (pc := 7) (d_V (pc := 7) C (As := [.int a1]) (rest := []) rb2 kb2 nt_1 q2560 yi_X2_noFigure_FigureSurveyModel yk_X2_noFigure rfl (by decide) (by decide) (Nat.le_trans aw_0 (by decide)) rfl (mX2_noFigure C.st ex3) dX2_setStroke_7) ?_
  refine v_if_ne (pc := 10) (tgt := 21) C dX2_setStroke_10 rfl (fun hc => ?_) (fun hc => ?_)
  · rw [if_neg hc] at hf
    exact V.sub [0] rfl (vX2_setStroke_p21 X hf)
  · rw [if_pos (Decidable.of_not_not hc)] at hf
    refine v_aload_n (pc := 13) (j := 0) C dX2_setStroke_13 rfl rfl ?_
    refine v_iload_n (pc := 14) (j := 2) C dX2_setStroke_14 rfl rfl ?_
    obtain ⟨b5, eb5, hf⟩ := oB hf
    obtain ⟨rb5, _, kb5⟩ := aIs_eq eb5
    obtain ⟨x6, ex6, hf⟩ := oB hf
    refine v_call (pc := 15) (d_V (pc := 15) C (As := [.int a2]) (rest := []) rb5 kb5 nt_1 q2564 yi_X2_noStroke_FigureSurveyModel yk_X2_noStroke rfl (by decide) (by decide) (Nat.le_trans aw_0 (by decide)) rfl (mX2_noStroke C.st ex6) dX2_setStroke_15) ?_
    refine v_if_eq (pc := 18) (tgt := 27) C dX2_setStroke_18 rfl (fun hc => ?_) (fun hc => ?_)
    · rw [if_pos hc] at hf
      refine v_aload_n (pc := 27) (j := 0) C dX2_setStroke_27 rfl rfl ?_
      refine v_iload_n (pc := 28) (j := 1) C dX2_setStroke_28 rfl rfl ?_
      obtain ⟨b8, eb8, hf⟩ := oB hf
      obtain ⟨rb8, _, kb8⟩ := aIs_eq eb8
      obtain ⟨x9, ex9, hf⟩ := oB hf
      refine v_call (pc := 29) (d_V (pc := 29) C (As := [.int a1]) (rest := []) rb8 kb8 nt_1 q2552 yi_X2_panelOf_FigureSurveyModel yk_X2_panelOf rfl (by decide) (by decide) (Nat.le_trans aw_0 (by decide)) rfl (mX2_panelOf C.st ex9) dX2_setStroke_29) ?_
      refine v_aload_n (pc := 32) (j := 0) C dX2_setStroke_32 rfl rfl ?_
      obtain ⟨x11, ex11, hf⟩ := oB hf
      refine v_getF (pc := 33) C lk_X2_27 (gR_eq ex11) dX2_setStroke_33 ?_
      refine v_iload_n (pc := 36) (j := 2) C dX2_setStroke_36 rfl rfl ?_
      obtain ⟨b12, eb12, hf⟩ := oB hf
      obtain ⟨rb12, _, kb12⟩ := aIs_eq eb12
      obtain ⟨x13, ex13, hf⟩ := oB hf
      refine v_call (pc := 37) (d_V (pc := 37) C (As := [.int a2]) (rest := [.int x9]) rb12 kb12 nt_15 q2520 yi_J2_get_java_util_ArrayList yk_J2_get rfl (by decide) (by decide) (Nat.le_trans (aw_i aw_0) (by decide)) rfl (mJ2_get C.st ex13) dX2_setStroke_37) ?_
      obtain ⟨_, e15, hf⟩ := oB hf
      refine v_cast (pc := 40) C q2521 ct__I e15 dX2_setStroke_40 ?_
      refine v_iconst (pc := 43) (v := (0 : Int32)) C dX2_setStroke_43 rfl ?_
      obtain ⟨x16, ex16, hf⟩ := oB hf
      refine v_iaload (pc := 44) C ex16 dX2_setStroke_44 ?_
      refine v_icmp_eq (pc := 45) (tgt := 54) C dX2_setStroke_45 rfl (fun hc => ?_) (fun hc => ?_)
      · rw [if_pos hc] at hf
        refine v_aload_n (pc := 54) (j := 0) C dX2_setStroke_54 rfl rfl ?_
        obtain ⟨x17, ex17, hf⟩ := oB hf
        refine v_getF (pc := 55) C lk_X2_38 (gR_eq ex17) dX2_setStroke_55 ?_
        refine v_iload_n (pc := 58) (j := 1) C dX2_setStroke_58 rfl rfl ?_
        obtain ⟨x18, ex18, hf⟩ := oB hf
        refine v_aaload (pc := 59) C ex18 dX2_setStroke_59 ?_
        refine v_iload_n (pc := 60) (j := 2) C dX2_setStroke_60 rfl rfl ?_
        obtain ⟨x19, ex19, hf⟩ := oB hf
        refine v_baload (pc := 61) C ex19 dX2_setStroke_61 ?_
        refine v_iload_n (pc := 62) (j := 3) C dX2_setStroke_62 rfl rfl ?_
        refine v_icmp_ne (pc := 63) (tgt := 72) C dX2_setStroke_63 rfl (fun hc => ?_) (fun hc => ?_)
        · rw [if_neg hc] at hf
          refine v_aload_n (pc := 72) (j := 0) C dX2_setStroke_72 rfl rfl ?_
          obtain ⟨x20, ex20, hf⟩ := oB hf
          refine v_getF (pc := 73) C lk_X2_38 (gR_eq ex20) dX2_setStroke_73 ?_
          refine v_iload_n (pc := 76) (j := 1) C dX2_setStroke_76 rfl rfl ?_
          obtain ⟨x21, ex21, hf⟩ := oB hf
          refine v_aaload (pc := 77) C ex21 dX2_setStroke_77 ?_
          refine v_iload_n (pc := 78) (j := 2) C dX2_setStroke_78 rfl rfl ?_
          refine v_iload_n (pc := 79) (j := 3) C dX2_setStroke_79 rfl rfl ?_
          obtain ⟨_, zh22, hf⟩ := oB hf
          obtain ⟨h22, eh22, hf⟩ := oB hf
          refine v_bastore (pc := 80) C (ckZ_eq zh22) eh22 dX2_setStroke_80 ?_
          refine v_iconst (pc := 81) (v := (0 : Int32)) C dX2_setStroke_81 rfl ?_
          refine v_istore (pc := 82) (lv' := [(4, false, .int (0 : Int32)), (0, false, va_rf a0), (1, false, .int a1), (2, false, .int a2), (3, false, .int a3)]) C dX2_setStroke_82 (by decide) rfl ?_
          refine v_iconst (pc := 84) (v := (0 : Int32)) C dX2_setStroke_84 rfl ?_
          refine v_istore (pc := 85) (lv' := [(5, false, .int (0 : Int32)), (4, false, .int (0 : Int32)), (0, false, va_rf a0), (1, false, .int a1), (2, false, .int a2), (3, false, .int a3)]) C dX2_setStroke_85 (by decide) rfl ?_
          exact V.sub [2, 3, 1, 0] rfl (vX2_setStroke_p87 X _ _ _ _ _ _ _ _ hf)
        · rw [if_pos (Decidable.of_not_not hc)] at hf
          refine v_aload_n (pc := 66) (j := 0) C dX2_setStroke_66 rfl rfl ?_
          refine v_iconst (pc := 67) (v := (3 : Int32)) C dX2_setStroke_67 rfl ?_
          obtain ⟨b23, eb23, hf⟩ := oB hf
          obtain ⟨rb23, _, kb23⟩ := aIs_eq eb23
          obtain ⟨x24, h25, ex24, hf⟩ := bnd2_eq hf
          refine v_call (pc := 68) (d_V (pc := 68) C (As := [.int (3 : Int32)]) (rest := []) rb23 kb23 nt_1 q2498 yi_X2_err_FigureSurveyModel yk_X2_err rfl (by decide) (by decide) (Nat.le_trans aw_0 (by decide)) rfl (mX2_err C.st ex24) dX2_setStroke_68) ?_
          cases hf
          exact v_ireturn (pc := 71) C X.2.1 X.2.2.1 X.2.2.2.1 rfl dX2_setStroke_71
      · rw [if_neg hc] at hf
        refine v_aload_n (pc := 48) (j := 0) C dX2_setStroke_48 rfl rfl ?_
        refine v_iconst (pc := 49) (v := (2 : Int32)) C dX2_setStroke_49 rfl ?_
        obtain ⟨b26, eb26, hf⟩ := oB hf
        obtain ⟨rb26, _, kb26⟩ := aIs_eq eb26
        obtain ⟨x27, h28, ex27, hf⟩ := bnd2_eq hf
        refine v_call (pc := 50) (d_V (pc := 50) C (As := [.int (2 : Int32)]) (rest := []) rb26 kb26 nt_1 q2498 yi_X2_err_FigureSurveyModel yk_X2_err rfl (by decide) (by decide) (Nat.le_trans aw_0 (by decide)) rfl (mX2_err C.st ex27) dX2_setStroke_50) ?_
        cases hf
        exact v_ireturn (pc := 53) C X.2.1 X.2.2.1 X.2.2.2.1 rfl dX2_setStroke_53
    · rw [if_neg hc] at hf
      exact V.sub [0] rfl (vX2_setStroke_p21 X hf)
theorem mX2_setStroke {l : Launch} {D : aD} {h : aH} {a0 : Option Nat} {a1 : Int32} {a2 : Int32} {a3 : Int32} {q : Int32} {g : aH} (hst : l.stackTraces = false) (hf : fX2_setStroke D h a0 a1 a2 a3 = some (q, g)) : aM l D yX2_setStroke cX2_setStroke 6 (some .int) 4 85 [va_rf a0, .int a1, .int a2, .int a3] h (.inr (some (.int q)), g) :=
  aM.ofX [(false, va_rf a0), (false, .int a1), (false, .int a2), (false, .int a3)] rfl (ap_r (ap_c rfl (ap_c rfl (ap_c rfl ap_0)))) (by decide +kernel) hst (al_of (aw_r (aw_i (aw_i (aw_i aw_0)))) (by decide)) fun p e s m args below meth c X => V.sub (lv' := [(0, false, va_rf a0), (1, false, .int a1), (2, false, .int a2), (3, false, .int a3)]) [0, 1, 2, 3] rfl (vX2_setStroke X hf)
def fX2_cells_p91 (D : aD) (h : aH) (K5 : (Option Nat) → Int32 → Int64 → Int32 → Option (Int64)) (a0 : Option Nat) (a1 : Int32) (a2 : Int64) (a4 : Int32) : Option (Int64) :=
  K5 a0 a1 a2 (a4 + 1)
theorem vX2_cells_p91 {h : aH} {K5 : (Option Nat) → Int32 → Int64 → Int32 → Option (Int64)} {a0 : Option Nat} {a1 : Int32} {a2 : Int64} {a4 : Int32} {q : Int64} (X : aX p l R s m meth c D n0 s0 yX2_cells cX2_cells 3 64 5 (some .long) h0) (k5 : ∀ (a0 : Option Nat) (a1 : Int32) (a2 : Int64) (a4 : Int32) (q : Int64), K5 a0 a1 a2 a4 = some q → V p l e R s m args below meth c D n0 s0 (aEnd D below args s h0 (.inr (some (.long q)), h)) h 5 [(0, false, va_rf a0), (1, false, .int a1), (2, true, .long a2), (4, false, .int a4)] []) (hf : fX2_cells_p91 D h K5 a0 a1 a2 a4 = some q) : V p l e R s m args below meth c D n0 s0 (aEnd D below args s h0 (.inr (some (.long q)), h)) h 91 [(0, false, va_rf a0), (1, false, .int a1), (2, true, .long a2), (4, false, .int a4)] [] := by
  have C := X.1
  unfold fX2_cells_p91 at hf
  refine v_iinc (pc := 91) (j := 3) (v := (a4 + 1)) (lv' := [(4, false, .int (a4 + 1)), (0, false, va_rf a0), (1, false, .int a1), (2, true, .long a2)]) C dX2_cells_91 rfl rfl (by decide) rfl ?_
  refine v_goto (pc := 94) (tgt := 5) C dX2_cells_94 rfl ?_
  exact V.sub [1, 2, 3, 0] rfl (k5 _ _ _ _ _ hf)
def fX2_cells_p89 (D : aD) (h : aH) (K5 : (Option Nat) → Int32 → Int64 → Int32 → Option (Int64)) (a0 : Option Nat) (a1 : Int32) (a4 : Int32) (t0 : Int64) (t1 : Int64) : Option (Int64) :=
  (some ((t0 ||| t1))).bind fun x1 =>
  fX2_cells_p91 D h K5 a0 a1 x1 a4
theorem vX2_cells_p89 {h : aH} {K5 : (Option Nat) → Int32 → Int64 → Int32 → Option (Int64)} {a0 : Option Nat} {a1 : Int32} {a4 : Int32} {t0 : Int64} {t1 : Int64} {q : Int64} (X : aX p l R s m meth c D n0 s0 yX2_cells cX2_cells 3 64 5 (some .long) h0) (k5 : ∀ (a0 : Option Nat) (a1 : Int32) (a2 : Int64) (a4 : Int32) (q : Int64), K5 a0 a1 a2 a4 = some q → V p l e R s m args below meth c D n0 s0 (aEnd D below args s h0 (.inr (some (.long q)), h)) h 5 [(0, false, va_rf a0), (1, false, .int a1), (2, true, .long a2), (4, false, .int a4)] []) (hf : fX2_cells_p89 D h K5 a0 a1 a4 t0 t1 = some q) : V p l e R s m args below meth c D n0 s0 (aEnd D below args s h0 (.inr (some (.long q)), h)) h 89 [(0, false, va_rf a0), (1, false, .int a1), (4, false, .int a4)] [.long t1, .long t0] := by
  have C := X.1
  unfold fX2_cells_p89 at hf
  refine v_lor (pc := 89) C dX2_cells_89 ?_
  obtain ⟨x1, ex1, hf⟩ := oB hf
  refine vst (Option.some.inj ex1) (fun z => .long z :: []) ?_
  refine v_lstore_n (pc := 90) (lv' := [(2, true, .long x1), (0, false, va_rf a0), (1, false, .int a1), (4, false, .int a4)]) C dX2_cells_90 rfl (by decide) rfl ?_
  exact V.sub [1, 2, 0, 3] rfl (vX2_cells_p91 X k5 hf)
def fX2_cells_p97 (D : aD) (h : aH) (a2 : Int64) : Option (Int64) :=
  some a2
theorem vX2_cells_p97 {h : aH} {a2 : Int64} {q : Int64} (X : aX p l R s m meth c D n0 s0 yX2_cells cX2_cells 3 64 5 (some .long) h0) (hf : fX2_cells_p97 D h a2 = some q) : V p l e R s m args below meth c D n0 s0 (aEnd D below args s h0 (.inr (some (.long q)), h)) h 97 [(2, true, .long a2)] [] := by
  have C := X.1
  unfold fX2_cells_p97 at hf
  refine v_lload_n (pc := 97) (j := 0) C dX2_cells_97 rfl rfl ?_
  cases hf
  exact v_lreturn (pc := 98) C X.2.1 X.2.2.1 X.2.2.2.1 rfl dX2_cells_98
def fX2_cells_p5 (D : aD) (h : aH) : Nat → (Option Nat) → Int32 → Int64 → Int32 → Option (Int64)
  | 0, _, _, _, _ => none
  | n + 1, a0, a1, a2, a4 =>
  (gR h 1 7 a0).bind fun x1 =>
  (aIs h 15 x1).bind fun _ =>
  (fJ2_size D h x1).bind fun x3 =>
  if x3 ≤ a4 then
  (fX2_cells_p97 D h a2)
  else
  ((gR h 1 10 a0).bind fun x5 =>
  (eR h x5 a1).bind fun x6 =>
  (eZ h x6 a4).bind fun x7 =>
  if x7 = 0 then
  (fX2_cells_p91 D h (fX2_cells_p5 D h n) a0 a1 a2 a4)
  else
  ((gR h 1 7 a0).bind fun x8 =>
  (aIs h 15 x8).bind fun _ =>
  (fJ2_get D h x8 a4).bind fun x10 =>
  (aCast h [100] x10).bind fun _ =>
  (eI h x10 (1 : Int32)).bind fun x13 =>
  if x13 = (1 : Int32) then
  ((gR h 1 8 a0).bind fun x24 =>
  (eL h x24 a4).bind fun x25 =>
  fX2_cells_p89 D h (fX2_cells_p5 D h n) a0 a1 a4 a2 x25)
  else
  ((gR h 1 8 a0).bind fun x14 =>
  (eL h x14 a4).bind fun x15 =>
  (gR h 1 6 a0).bind fun x16 =>
  (gR h 1 7 a0).bind fun x17 =>
  (aIs h 15 x17).bind fun _ =>
  (fJ2_get D h x17 a4).bind fun x19 =>
  (aCast h [100] x19).bind fun _ =>
  (eI h x19 (0 : Int32)).bind fun x22 =>
  (eL h x16 x22).bind fun x23 =>
  fX2_cells_p89 D h (fX2_cells_p5 D h n) a0 a1 a4 a2 (x15 &&& (x23 ^^^ (-1 : Int64))))))
theorem vX2_cells_p5 {h : aH} (X : aX p l R s m meth c D n0 s0 yX2_cells cX2_cells 3 64 5 (some .long) h0) : ∀ (n : Nat) (a0 : Option Nat) (a1 : Int32) (a2 : Int64) (a4 : Int32) (q : Int64), fX2_cells_p5 D h n a0 a1 a2 a4 = some q → V p l e R s m args below meth c D n0 s0 (aEnd D below args s h0 (.inr (some (.long q)), h)) h 5 [(0, false, va_rf a0), (1, false, .int a1), (2, true, .long a2), (4, false, .int a4)] [] := by
  have C := X.1
  intro n
  induction n with
  | zero =>
    intro _ _ _ _ _ hf
    rw [fX2_cells_p5] at hf
    cases hf
  | succ n ih =>
    intro a0 a1 a2 a4 q hf
    rw [fX2_cells_p5] at hf
    refine v_iload (pc := 5) (j := 3) C dX2_cells_5 rfl ?_
    refine v_aload_n (pc := 7) (j := 0) C dX2_cells_7 rfl rfl ?_
    obtain ⟨x1, ex1, hf⟩ := oB hf
    refine v_getF (pc := 8) C lk_X2_27 (gR_eq ex1) dX2_cells_8 ?_
    obtain ⟨b2, eb2, hf⟩ := oB hf
    obtain ⟨rb2, _, kb2⟩ := aIs_eq eb2
    obtain ⟨x3, ex3, hf⟩ := oB hf
    refine v_call (pc := 11) (d_V (pc := 11) C (As := []) (rest := [.int a4]) rb2 kb2 nt_15 q2502 yi_J2_size_java_util_ArrayList yk_J2_size rfl (by decide) (by decide) (Nat.le_trans (aw_i aw_0) (by decide)) rfl (mJ2_size C.st ex3) dX2_cells_11) ?_
    refine v_icmp_ge (pc := 14) (tgt := 97) C dX2_cells_14 rfl (fun hc => ?_) (fun hc => ?_)
    · rw [if_pos hc] at hf
      exact V.sub [2] rfl (vX2_cells_p97 X hf)
    · rw [if_neg hc] at hf
      refine v_aload_n (pc := 17) (j := 0) C dX2_cells_17 rfl rfl ?_
      obtain ⟨x5, ex5, hf⟩ := oB hf
      refine v_getF (pc := 18) C lk_X2_38 (gR_eq ex5) dX2_cells_18 ?_
      refine v_iload_n (pc := 21) (j := 1) C dX2_cells_21 rfl rfl ?_
      obtain ⟨x6, ex6, hf⟩ := oB hf
      refine v_aaload (pc := 22) C ex6 dX2_cells_22 ?_
      refine v_iload (pc := 23) (j := 3) C dX2_cells_23 rfl ?_
      obtain ⟨x7, ex7, hf⟩ := oB hf
      refine v_baload (pc := 25) C ex7 dX2_cells_25 ?_
      refine v_if_eq (pc := 26) (tgt := 91) C dX2_cells_26 rfl (fun hc => ?_) (fun hc => ?_)
      · rw [if_pos hc] at hf
        exact V.sub [0, 1, 2, 3] rfl (vX2_cells_p91 X ih hf)
      · rw [if_neg hc] at hf
        refine v_lload_n (pc := 29) (j := 2) C dX2_cells_29 rfl rfl ?_
        refine v_aload_n (pc := 30) (j := 0) C dX2_cells_30 rfl rfl ?_
        obtain ⟨x8, ex8, hf⟩ := oB hf
        refine v_getF (pc := 31) C lk_X2_27 (gR_eq ex8) dX2_cells_31 ?_
        refine v_iload (pc := 34) (j := 3) C dX2_cells_34 rfl ?_
        obtain ⟨b9, eb9, hf⟩ := oB hf
        obtain ⟨rb9, _, kb9⟩ := aIs_eq eb9
        obtain ⟨x10, ex10, hf⟩ := oB hf
        refine v_call (pc := 36) (d_V (pc := 36) C (As := [.int a4]) (rest := [.long a2]) rb9 kb9 nt_15 q2520 yi_J2_get_java_util_ArrayList yk_J2_get rfl (by decide) (by decide) (Nat.le_trans (aw_l aw_0) (by decide)) rfl (mJ2_get C.st ex10) dX2_cells_36) ?_
        obtain ⟨_, e12, hf⟩ := oB hf
        refine v_cast (pc := 39) C q2521 ct__I e12 dX2_cells_39 ?_
        refine v_iconst (pc := 42) (v := (1 : Int32)) C dX2_cells_42 rfl ?_
        obtain ⟨x13, ex13, hf⟩ := oB hf
        refine v_iaload (pc := 43) C ex13 dX2_cells_43 ?_
        refine v_iconst (pc := 44) (v := (1 : Int32)) C dX2_cells_44 rfl ?_
        refine v_icmp_ne (pc := 45) (tgt := 58) C dX2_cells_45 rfl (fun hc => ?_) (fun hc => ?_)
        · rw [if_neg hc] at hf
          refine v_aload_n (pc := 58) (j := 0) C dX2_cells_58 rfl rfl ?_
          obtain ⟨x14, ex14, hf⟩ := oB hf
          refine v_getF (pc := 59) C lk_X2_30 (gR_eq ex14) dX2_cells_59 ?_
          refine v_iload (pc := 62) (j := 3) C dX2_cells_62 rfl ?_
          obtain ⟨x15, ex15, hf⟩ := oB hf
          refine v_laload (pc := 64) C ex15 dX2_cells_64 ?_
          refine v_aload_n (pc := 65) (j := 0) C dX2_cells_65 rfl rfl ?_
          obtain ⟨x16, ex16, hf⟩ := oB hf
          refine v_getF (pc := 66) C lk_X2_23 (gR_eq ex16) dX2_cells_66 ?_
          refine v_aload_n (pc := 69) (j := 0) C dX2_cells_69 rfl rfl ?_
          obtain ⟨x17, ex17, hf⟩ := oB hf
          refine v_getF (pc := 70) C lk_X2_27 (gR_eq ex17) dX2_cells_70 ?_
          refine v_iload (pc := 73) (j := 3) C dX2_cells_73 rfl ?_
          obtain ⟨b18, eb18, hf⟩ := oB hf
          obtain ⟨rb18, _, kb18⟩ := aIs_eq eb18
          obtain ⟨x19, ex19, hf⟩ := oB hf
          refine v_call (pc := 75) (d_V (pc := 75) C (As := [.int a4]) (rest := [va_rf x16, .long x15, .long a2]) rb18 kb18 nt_15 q2520 yi_J2_get_java_util_ArrayList yk_J2_get rfl (by decide) (by decide) (Nat.le_trans (aw_r (aw_l (aw_l aw_0))) (by decide)) rfl (mJ2_get C.st ex19) dX2_cells_75) ?_
          obtain ⟨_, e21, hf⟩ := oB hf
          refine v_cast (pc := 78) C q2521 ct__I e21 dX2_cells_78 ?_
          refine v_iconst (pc := 81) (v := (0 : Int32)) C dX2_cells_81 rfl ?_
          obtain ⟨x22, ex22, hf⟩ := oB hf
          refine v_iaload (pc := 82) C ex22 dX2_cells_82 ?_
          obtain ⟨x23, ex23, hf⟩ := oB hf
          refine v_laload (pc := 83) C ex23 dX2_cells_83 ?_
          refine v_ldc2 (pc := 84) (v := (-1 : Int64)) C q2576 dX2_cells_84 ?_
          refine v_lxor (pc := 87) C dX2_cells_87 ?_
          refine v_land (pc := 88) C dX2_cells_88 ?_
          exact V.sub [0, 1, 3] rfl (vX2_cells_p89 X ih hf)
        · rw [if_pos (Decidable.of_not_not hc)] at hf
          refine v_aload_n (pc := 48) (j := 0) C dX2_cells_48 rfl rfl ?_
          obtain ⟨x24, ex24, hf⟩ := oB hf
          refine v_getF (pc := 49) C lk_X2_30 (gR_eq ex24) dX2_cells_49 ?_
          refine v_iload (pc := 52) (j := 3) C dX2_cells_52 rfl ?_
          obtain ⟨x25, ex25, hf⟩ := oB hf
          refine v_laload (pc := 54) C ex25 dX2_cells_54 ?_
          refine v_goto (pc := 55) (tgt := 89) C dX2_cells_55 rfl ?_
          exact V.sub [0, 1, 3] rfl (vX2_cells_p89 X ih hf)
def fX2_cells (D : aD) (h : aH) (a0 : Option Nat) (a1 : Int32) : Option (Int64) :=
  fX2_cells_p5 D h FU a0 a1 (0 : Int64) (0 : Int32)
theorem vX2_cells {h : aH} {a0 : Option Nat} {a1 : Int32} {q : Int64} (X : aX p l R s m meth c D n0 s0 yX2_cells cX2_cells 3 64 5 (some .long) h0) (hf : fX2_cells D h a0 a1 = some q) : V p l e R s m args below meth c D n0 s0 (aEnd D below args s h0 (.inr (some (.long q)), h)) h 0 [(0, false, va_rf a0), (1, false, .int a1)] [] := by
  have C := X.1
  unfold fX2_cells at hf
  refine v_lconst (pc := 0) (v := (0 : Int64)) C dX2_cells_0 rfl ?_
  refine v_lstore_n (pc := 1) (lv' := [(2, true, .long (0 : Int64)), (0, false, va_rf a0), (1, false, .int a1)]) C dX2_cells_1 rfl (by decide) rfl ?_
  refine v_iconst (pc := 2) (v := (0 : Int32)) C dX2_cells_2 rfl ?_
  refine v_istore (pc := 3) (lv' := [(4, false, .int (0 : Int32)), (2, true, .long (0 : Int64)), (0, false, va_rf a0), (1, false, .int a1)]) C dX2_cells_3 (by decide) rfl ?_
  exact V.sub [2, 3, 1, 0] rfl (vX2_cells_p5 X _ _ _ _ _ _ hf)
theorem mX2_cells {l : Launch} {D : aD} {h : aH} {a0 : Option Nat} {a1 : Int32} {q : Int64} (hst : l.stackTraces = false) (hf : fX2_cells D h a0 a1 = some q) : aM l D yX2_cells cX2_cells 5 (some .long) 3 64 [va_rf a0, .int a1] h (.inr (some (.long q)), h) :=
  aM.ofX [(false, va_rf a0), (false, .int a1)] rfl (ap_r (ap_c rfl ap_0)) (by decide +kernel) hst (al_of (aw_r (aw_i aw_0)) (by decide)) fun p e s m args below meth c X => V.sub (lv' := [(0, false, va_rf a0), (1, false, .int a1)]) [0, 1] rfl (vX2_cells X hf)
def fX2_cellsOf (D : aD) (h : aH) (a0 : Option Nat) (a1 : Int32) : Option (Int64 × aH) :=
  (pF D h 1 0 a0 (.int (0 : Int32))).bind fun h1 =>
  (aIs h1 1 a0).bind fun _ =>
  (fX2_noFigure D h1 a0 a1).bind fun x3 =>
  if x3 = 0 then
  ((aIs h1 1 a0).bind fun _ =>
  (fX2_cells D h1 a0 a1).bind fun x6 =>
  some (x6, h1))
  else
  ((aIs h1 1 a0).bind fun _ =>
  bnd2 (fX2_err D h1 a0 (1 : Int32)) fun x9 h10 =>
  some (x9.toInt64, h10))
theorem vX2_cellsOf {h : aH} {a0 : Option Nat} {a1 : Int32} {q : Int64} {g : aH} (X : aX p l R s m meth c D n0 s0 yX2_cellsOf cX2_cellsOf 4 88 2 (some .long) h0) (hf : fX2_cellsOf D h a0 a1 = some (q, g)) : V p l e R s m args below meth c D n0 s0 (aEnd D below args s h0 (.inr (some (.long q)), g)) h 0 [(0, false, va_rf a0), (1, false, .int a1)] [] := by
  have C := X.1
  unfold fX2_cellsOf at hf
  refine v_aload_n (pc := 0) (j := 0) C dX2_cellsOf_0 rfl rfl ?_
  refine v_iconst (pc := 1) (v := (0 : Int32)) C dX2_cellsOf_1 rfl ?_
  obtain ⟨h1, eh1, hf⟩ := oB hf
  refine v_putF (pc := 2) C lk_X2_69 tyX2 tyX2_ok nmX2 (tyX2_ok 0 (by decide)) rfl rfl eh1 dX2_cellsOf_2 ?_
  refine v_aload_n (pc := 5) (j := 0) C dX2_cellsOf_5 rfl rfl ?_
  refine v_iload_n (pc := 6) (j := 1) C dX2_cellsOf_6 rfl rfl ?_
  obtain ⟨b2, eb2, hf⟩ := oB hf
  obtain ⟨rb2, _, kb2⟩ := aIs_eq eb2
  obtain ⟨x3, ex3, hf⟩ := oB hf
  refine v_call (pc := 7) (d_V (pc := 7) C (As := [.int a1]) (rest := []) rb2 kb2 nt_1 q2560 yi_X2_noFigure_FigureSurveyModel yk_X2_noFigure rfl (by decide) (by decide) (Nat.le_trans aw_0 (by decide)) rfl (mX2_noFigure C.st ex3) dX2_cellsOf_7) ?_
  refine v_if_eq (pc := 10) (tgt := 22) C dX2_cellsOf_10 rfl (fun hc => ?_) (fun hc => ?_)
  · rw [if_pos hc] at hf
    refine v_aload_n (pc := 22) (j := 0) C dX2_cellsOf_22 rfl rfl ?_
    refine v_iload_n (pc := 23) (j := 1) C dX2_cellsOf_23 rfl rfl ?_
    obtain ⟨b5, eb5, hf⟩ := oB hf
    obtain ⟨rb5, _, kb5⟩ := aIs_eq eb5
    obtain ⟨x6, ex6, hf⟩ := oB hf
    refine v_call (pc := 24) (d_V (pc := 24) C (As := [.int a1]) (rest := []) rb5 kb5 nt_1 q2572 yi_X2_cells_FigureSurveyModel yk_X2_cells rfl (by decide) (by decide) (Nat.le_trans aw_0 (by decide)) rfl (mX2_cells C.st ex6) dX2_cellsOf_24) ?_
    cases hf
    exact v_lreturn (pc := 27) C X.2.1 X.2.2.1 X.2.2.2.1 rfl dX2_cellsOf_27
  · rw [if_neg hc] at hf
    refine v_aload_n (pc := 13) (j := 0) C dX2_cellsOf_13 rfl rfl ?_
    refine v_iconst (pc := 14) (v := (1 : Int32)) C dX2_cellsOf_14 rfl ?_
    obtain ⟨b8, eb8, hf⟩ := oB hf
    obtain ⟨rb8, _, kb8⟩ := aIs_eq eb8
    obtain ⟨x9, h10, ex9, hf⟩ := bnd2_eq hf
    refine v_call (pc := 15) (d_V (pc := 15) C (As := [.int (1 : Int32)]) (rest := []) rb8 kb8 nt_1 q2498 yi_X2_err_FigureSurveyModel yk_X2_err rfl (by decide) (by decide) (Nat.le_trans aw_0 (by decide)) rfl (mX2_err C.st ex9) dX2_cellsOf_15) ?_
    refine v_i2l (pc := 18) C dX2_cellsOf_18 ?_
    refine v_goto (pc := 19) (tgt := 27) C dX2_cellsOf_19 rfl ?_
    cases hf
    exact v_lreturn (pc := 27) C X.2.1 X.2.2.1 X.2.2.2.1 rfl dX2_cellsOf_27
theorem mX2_cellsOf {l : Launch} {D : aD} {h : aH} {a0 : Option Nat} {a1 : Int32} {q : Int64} {g : aH} (hst : l.stackTraces = false) (hf : fX2_cellsOf D h a0 a1 = some (q, g)) : aM l D yX2_cellsOf cX2_cellsOf 2 (some .long) 4 88 [va_rf a0, .int a1] h (.inr (some (.long q)), g) :=
  aM.ofX [(false, va_rf a0), (false, .int a1)] rfl (ap_r (ap_c rfl ap_0)) (by decide +kernel) hst (al_of (aw_r (aw_i aw_0)) (by decide)) fun p e s m args below meth c X => V.sub (lv' := [(0, false, va_rf a0), (1, false, .int a1)]) [0, 1] rfl (vX2_cellsOf X hf)
def fJ21_bitCount (D : aD) (h : aH) (a0 : Int64) : Option (Int32) :=
  (some ((a0 - ((a0.toUInt64 >>> ((1 : Int32).toInt64.toUInt64 &&& Int64.toUInt64 63)).toInt64 &&& (6148914691236517205 : Int64))))).bind fun x1 =>
  (some (((x1 &&& (3689348814741910323 : Int64)) + ((x1.toUInt64 >>> ((2 : Int32).toInt64.toUInt64 &&& Int64.toUInt64 63)).toInt64 &&& (3689348814741910323 : Int64))))).bind fun x2 =>
  (some (((x2 + (x2.toUInt64 >>> ((4 : Int32).toInt64.toUInt64 &&& Int64.toUInt64 63)).toInt64) &&& (1085102592571150095 : Int64)))).bind fun x3 =>
  (some ((x3 + (x3.toUInt64 >>> ((8 : Int32).toInt64.toUInt64 &&& Int64.toUInt64 63)).toInt64))).bind fun x4 =>
  (some ((x4 + (x4.toUInt64 >>> ((16 : Int32).toInt64.toUInt64 &&& Int64.toUInt64 63)).toInt64))).bind fun x5 =>
  (some ((x5 + (x5.toUInt64 >>> ((32 : Int32).toInt64.toUInt64 &&& Int64.toUInt64 63)).toInt64))).bind fun x6 =>
  some (x6.toInt32 &&& (127 : Int32))
theorem vJ21_bitCount {h : aH} {a0 : Int64} {q : Int32} (X : aX p l R s m meth c D n0 s0 yJ21_bitCount cJ21_bitCount 0 0 2 (some .int) h0) (hf : fJ21_bitCount D h a0 = some q) : V p l e R s m args below meth c D n0 s0 (aEnd D below args s h0 (.inr (some (.int q)), h)) h 0 [(0, true, .long a0)] [] := by
  have C := X.1
  unfold fJ21_bitCount at hf
  refine v_lload_n (pc := 0) (j := 0) C dJ21_bitCount_0 rfl rfl ?_
  refine v_lload_n (pc := 1) (j := 0) C dJ21_bitCount_1 rfl rfl ?_
  refine v_iconst (pc := 2) (v := (1 : Int32)) C dJ21_bitCount_2 rfl ?_
  refine v_lushr (pc := 3) C dJ21_bitCount_3 ?_
  refine v_ldc2 (pc := 4) (v := (6148914691236517205 : Int64)) C q560 dJ21_bitCount_4 ?_
  refine v_land (pc := 7) C dJ21_bitCount_7 ?_
  refine v_lsub (pc := 8) C dJ21_bitCount_8 ?_
  obtain ⟨x1, ex1, hf⟩ := oB hf
  refine vst (Option.some.inj ex1) (fun z => .long z :: []) ?_
  refine v_lstore_n (pc := 9) (lv' := [(0, true, .long x1)]) C dJ21_bitCount_9 rfl (by decide) rfl ?_
  refine v_lload_n (pc := 10) (j := 0) C dJ21_bitCount_10 rfl rfl ?_
  refine v_ldc2 (pc := 11) (v := (3689348814741910323 : Int64)) C q561 dJ21_bitCount_11 ?_
  refine v_land (pc := 14) C dJ21_bitCount_14 ?_
  refine v_lload_n (pc := 15) (j := 0) C dJ21_bitCount_15 rfl rfl ?_
  refine v_iconst (pc := 16) (v := (2 : Int32)) C dJ21_bitCount_16 rfl ?_
  refine v_lushr (pc := 17) C dJ21_bitCount_17 ?_
  refine v_ldc2 (pc := 18) (v := (3689348814741910323 : Int64)) C q561 dJ21_bitCount_18 ?_
  refine v_land (pc := 21) C dJ21_bitCount_21 ?_
  refine v_ladd (pc := 22) C dJ21_bitCount_22 ?_
  obtain ⟨x2, ex2, hf⟩ := oB hf
  refine vst (Option.some.inj ex2) (fun z => .long z :: []) ?_
  refine v_lstore_n (pc := 23) (lv' := [(0, true, .long x2)]) C dJ21_bitCount_23 rfl (by decide) rfl ?_
  refine v_lload_n (pc := 24) (j := 0) C dJ21_bitCount_24 rfl rfl ?_
  refine v_lload_n (pc := 25) (j := 0) C dJ21_bitCount_25 rfl rfl ?_
  refine v_iconst (pc := 26) (v := (4 : Int32)) C dJ21_bitCount_26 rfl ?_
  refine v_lushr (pc := 27) C dJ21_bitCount_27 ?_
  refine v_ladd (pc := 28) C dJ21_bitCount_28 ?_
  refine v_ldc2 (pc := 29) (v := (1085102592571150095 : Int64)) C q562 dJ21_bitCount_29 ?_
  refine v_land (pc := 32) C dJ21_bitCount_32 ?_
  obtain ⟨x3, ex3, hf⟩ := oB hf
  refine vst (Option.some.inj ex3) (fun z => .long z :: []) ?_
  refine v_lstore_n (pc := 33) (lv' := [(0, true, .long x3)]) C dJ21_bitCount_33 rfl (by decide) rfl ?_
  refine v_lload_n (pc := 34) (j := 0) C dJ21_bitCount_34 rfl rfl ?_
  refine v_lload_n (pc := 35) (j := 0) C dJ21_bitCount_35 rfl rfl ?_
  refine v_bipush (pc := 36) (v := (8 : Int32)) C dJ21_bitCount_36 rfl ?_
  refine v_lushr (pc := 38) C dJ21_bitCount_38 ?_
  refine v_ladd (pc := 39) C dJ21_bitCount_39 ?_
  obtain ⟨x4, ex4, hf⟩ := oB hf
  refine vst (Option.some.inj ex4) (fun z => .long z :: []) ?_
  refine v_lstore_n (pc := 40) (lv' := [(0, true, .long x4)]) C dJ21_bitCount_40 rfl (by decide) rfl ?_
  refine v_lload_n (pc := 41) (j := 0) C dJ21_bitCount_41 rfl rfl ?_
  refine v_lload_n (pc := 42) (j := 0) C dJ21_bitCount_42 rfl rfl ?_
  refine v_bipush (pc := 43) (v := (16 : Int32)) C dJ21_bitCount_43 rfl ?_
  refine v_lushr (pc := 45) C dJ21_bitCount_45 ?_
  refine v_ladd (pc := 46) C dJ21_bitCount_46 ?_
  obtain ⟨x5, ex5, hf⟩ := oB hf
  refine vst (Option.some.inj ex5) (fun z => .long z :: []) ?_
  refine v_lstore_n (pc := 47) (lv' := [(0, true, .long x5)]) C dJ21_bitCount_47 rfl (by decide) rfl ?_
  refine v_lload_n (pc := 48) (j := 0) C dJ21_bitCount_48 rfl rfl ?_
  refine v_lload_n (pc := 49) (j := 0) C dJ21_bitCount_49 rfl rfl ?_
  refine v_bipush (pc := 50) (v := (32 : Int32)) C dJ21_bitCount_50 rfl ?_
  refine v_lushr (pc := 52) C dJ21_bitCount_52 ?_
  refine v_ladd (pc := 53) C dJ21_bitCount_53 ?_
  obtain ⟨x6, ex6, hf⟩ := oB hf
  refine vst (Option.some.inj ex6) (fun z => .long z :: []) ?_
  refine v_lstore_n (pc := 54) (lv' := [(0, true, .long x6)]) C dJ21_bitCount_54 rfl (by decide) rfl ?_
  refine v_lload_n (pc := 55) (j := 0) C dJ21_bitCount_55 rfl rfl ?_
  refine v_l2i (pc := 56) C dJ21_bitCount_56 ?_
  refine v_bipush (pc := 57) (v := (127 : Int32)) C dJ21_bitCount_57 rfl ?_
  refine v_iand (pc := 59) C dJ21_bitCount_59 ?_
  cases hf
  exact v_ireturn (pc := 60) C X.2.1 X.2.2.1 X.2.2.2.1 rfl dJ21_bitCount_60
theorem mJ21_bitCount {l : Launch} {D : aD} {h : aH} {a0 : Int64} {q : Int32} (hst : l.stackTraces = false) (hf : fJ21_bitCount D h a0 = some q) : aM l D yJ21_bitCount cJ21_bitCount 2 (some .int) 0 0 [.long a0] h (.inr (some (.int q)), h) :=
  aM.ofX [(true, .long a0)] rfl (ap_c rfl ap_0) (by decide +kernel) hst (al_of (aw_l aw_0) (by decide)) fun p e s m args below meth c X => V.sub (lv' := [(0, true, .long a0)]) [0] rfl (vJ21_bitCount X hf)
def fX2_foundShare (D : aD) (h : aH) (a0 : Option Nat) (a1 : Int32) : Option (Int32 × aH) :=
  (pF D h 1 0 a0 (.int (0 : Int32))).bind fun h1 =>
  (aIs h1 1 a0).bind fun _ =>
  (fX2_noFigure D h1 a0 a1).bind fun x3 =>
  if x3 = 0 then
  ((aIs h1 1 a0).bind fun _ =>
  (fX2_cells D h1 a0 a1).bind fun x6 =>
  if (lg_cmp x6 (0 : Int64)) = 0 then
  (some ((0 : Int32), h1))
  else
  ((aIs h1 1 a0).bind fun _ =>
  (fX2_panelOf D h1 a0 a1).bind fun x9 =>
  (aIs h1 1 a0).bind fun _ =>
  (fX2_often D h1 a0 x9 (1 : Int32)).bind fun x12 =>
  (fJ21_bitCount D h1 (x6 &&& x12)).bind fun x15 =>
  (fJ21_bitCount D h1 x6).bind fun x18 =>
  (ckN x18).bind fun _ =>
  some ((((1000 : Int32) * x15) / x18), h1)))
  else
  ((aIs h1 1 a0).bind fun _ =>
  bnd2 (fX2_err D h1 a0 (1 : Int32)) fun x22 h23 =>
  some (x22, h23))
theorem vX2_foundShare {h : aH} {a0 : Option Nat} {a1 : Int32} {q : Int32} {g : aH} (X : aX p l R s m meth c D n0 s0 yX2_foundShare cX2_foundShare 5 118 4 (some .int) h0) (hf : fX2_foundShare D h a0 a1 = some (q, g)) : V p l e R s m args below meth c D n0 s0 (aEnd D below args s h0 (.inr (some (.int q)), g)) h 0 [(0, false, va_rf a0), (1, false, .int a1)] [] := by
  have C := X.1
  unfold fX2_foundShare at hf
  refine v_aload_n (pc := 0) (j := 0) C dX2_foundShare_0 rfl rfl ?_
  refine v_iconst (pc := 1) (v := (0 : Int32)) C dX2_foundShare_1 rfl ?_
  obtain ⟨h1, eh1, hf⟩ := oB hf
  refine v_putF (pc := 2) C lk_X2_69 tyX2 tyX2_ok nmX2 (tyX2_ok 0 (by decide)) rfl rfl eh1 dX2_foundShare_2 ?_
  refine v_aload_n (pc := 5) (j := 0) C dX2_foundShare_5 rfl rfl ?_
  refine v_iload_n (pc := 6) (j := 1) C dX2_foundShare_6 rfl rfl ?_
  obtain ⟨b2, eb2, hf⟩ := oB hf
  obtain ⟨rb2, _, kb2⟩ := aIs_eq eb2
  obtain ⟨x3, ex3, hf⟩ := oB hf
  refine v_call (pc := 7) (d_V (pc := 7) C (As := [.int a1]) (rest := []) rb2 kb2 nt_1 q2560 yi_X2_noFigure_FigureSurveyModel yk_X2_noFigure rfl (by decide) (by decide) (Nat.le_trans aw_0 (by decide)) rfl (mX2_noFigure C.st ex3) dX2_foundShare_7) ?_
  refine v_if_eq (pc := 10) (tgt := 19) C dX2_foundShare_10 rfl (fun hc => ?_) (fun hc => ?_)
  · rw [if_pos hc] at hf
    refine v_aload_n (pc := 19) (j := 0) C dX2_foundShare_19 rfl rfl ?_
    refine v_iload_n (pc := 20) (j := 1) C dX2_foundShare_20 rfl rfl ?_
    obtain ⟨b5, eb5, hf⟩ := oB hf
    obtain ⟨rb5, _, kb5⟩ := aIs_eq eb5
    obtain ⟨x6, ex6, hf⟩ := oB hf
    refine v_call (pc := 21) (d_V (pc := 21) C (As := [.int a1]) (rest := []) rb5 kb5 nt_1 q2572 yi_X2_cells_FigureSurveyModel yk_X2_cells rfl (by decide) (by decide) (Nat.le_trans aw_0 (by decide)) rfl (mX2_cells C.st ex6) dX2_foundShare_21) ?_
    refine v_lstore_n (pc := 24) (lv' := [(2, true, .long x6), (0, false, va_rf a0), (1, false, .int a1)]) C dX2_foundShare_24 rfl (by decide) rfl ?_
    refine v_lload_n (pc := 25) (j := 0) C dX2_foundShare_25 rfl rfl ?_
    refine v_lconst (pc := 26) (v := (0 : Int64)) C dX2_foundShare_26 rfl ?_
    refine v_lcmp (pc := 27) C dX2_foundShare_27 ?_
    refine v_if_ne (pc := 28) (tgt := 35) C dX2_foundShare_28 rfl (fun hc => ?_) (fun hc => ?_)
    · rw [if_neg hc] at hf
      refine v_sipush (pc := 35) (v := (1000 : Int32)) C dX2_foundShare_35 rfl ?_
      refine v_lload_n (pc := 38) (j := 0) C dX2_foundShare_38 rfl rfl ?_
      refine v_aload_n (pc := 39) (j := 1) C dX2_foundShare_39 rfl rfl ?_
      refine v_aload_n (pc := 40) (j := 1) C dX2_foundShare_40 rfl rfl ?_
      refine v_iload_n (pc := 41) (j := 2) C dX2_foundShare_41 rfl rfl ?_
      obtain ⟨b8, eb8, hf⟩ := oB hf
      obtain ⟨rb8, _, kb8⟩ := aIs_eq eb8
      obtain ⟨x9, ex9, hf⟩ := oB hf
      refine v_call (pc := 42) (d_V (pc := 42) C (As := [.int a1]) (rest := [va_rf a0, .long x6, .int (1000 : Int32)]) rb8 kb8 nt_1 q2552 yi_X2_panelOf_FigureSurveyModel yk_X2_panelOf rfl (by decide) (by decide) (Nat.le_trans (aw_r (aw_l (aw_i aw_0))) (by decide)) rfl (mX2_panelOf C.st ex9) dX2_foundShare_42) ?_
      refine v_iconst (pc := 45) (v := (1 : Int32)) C dX2_foundShare_45 rfl ?_
      obtain ⟨b11, eb11, hf⟩ := oB hf
      obtain ⟨rb11, _, kb11⟩ := aIs_eq eb11
      obtain ⟨x12, ex12, hf⟩ := oB hf
      refine v_call (pc := 46) (d_V (pc := 46) C (As := [.int x9, .int (1 : Int32)]) (rest := [.long x6, .int (1000 : Int32)]) rb11 kb11 nt_1 q2540 yi_X2_often_FigureSurveyModel yk_X2_often rfl (by decide) (by decide) (Nat.le_trans (aw_l (aw_i aw_0)) (by decide)) rfl (mX2_often C.st ex12) dX2_foundShare_46) ?_
      refine v_land (pc := 49) C dX2_foundShare_49 ?_
      obtain ⟨x15, ex15, hf⟩ := oB hf
      refine v_call (pc := 50) (d_S (pc := 50) C (As := [.long (x6 &&& x12)]) (rest := [.int (1000 : Int32)]) q2581 q558 yk_J21_bitCount rfl (by decide) (by decide) (Nat.le_trans (aw_i aw_0) (by decide)) rfl (mJ21_bitCount C.st ex15) dX2_foundShare_50) ?_
      refine v_imul (pc := 53) C dX2_foundShare_53 ?_
      refine v_lload_n (pc := 54) (j := 0) C dX2_foundShare_54 rfl rfl ?_
      obtain ⟨x18, ex18, hf⟩ := oB hf
      refine v_call (pc := 55) (d_S (pc := 55) C (As := [.long x6]) (rest := [.int ((1000 : Int32) * x15)]) q2581 q558 yk_J21_bitCount rfl (by decide) (by decide) (Nat.le_trans (aw_i aw_0) (by decide)) rfl (mJ21_bitCount C.st ex18) dX2_foundShare_55) ?_
      obtain ⟨_, e20, hf⟩ := oB hf
      refine v_idiv (pc := 58) C dX2_foundShare_58 (ckN_eq e20) ?_
      cases hf
      exact v_ireturn (pc := 59) C X.2.1 X.2.2.1 X.2.2.2.1 rfl dX2_foundShare_59
    · rw [if_pos (Decidable.of_not_not hc)] at hf
      refine v_iconst (pc := 31) (v := (0 : Int32)) C dX2_foundShare_31 rfl ?_
      refine v_goto (pc := 32) (tgt := 59) C dX2_foundShare_32 rfl ?_
      cases hf
      exact v_ireturn (pc := 59) C X.2.1 X.2.2.1 X.2.2.2.1 rfl dX2_foundShare_59
  · rw [if_neg hc] at hf
    refine v_aload_n (pc := 13) (j := 0) C dX2_foundShare_13 rfl rfl ?_
    refine v_iconst (pc := 14) (v := (1 : Int32)) C dX2_foundShare_14 rfl ?_
    obtain ⟨b21, eb21, hf⟩ := oB hf
    obtain ⟨rb21, _, kb21⟩ := aIs_eq eb21
    obtain ⟨x22, h23, ex22, hf⟩ := bnd2_eq hf
    refine v_call (pc := 15) (d_V (pc := 15) C (As := [.int (1 : Int32)]) (rest := []) rb21 kb21 nt_1 q2498 yi_X2_err_FigureSurveyModel yk_X2_err rfl (by decide) (by decide) (Nat.le_trans aw_0 (by decide)) rfl (mX2_err C.st ex22) dX2_foundShare_15) ?_
    cases hf
    exact v_ireturn (pc := 18) C X.2.1 X.2.2.1 X.2.2.2.1 rfl dX2_foundShare_18
theorem mX2_foundShare {l : Launch} {D : aD} {h : aH} {a0 : Option Nat} {a1 : Int32} {q : Int32} {g : aH} (hst : l.stackTraces = false) (hf : fX2_foundShare D h a0 a1 = some (q, g)) : aM l D yX2_foundShare cX2_foundShare 4 (some .int) 5 118 [va_rf a0, .int a1] h (.inr (some (.int q)), g) :=
  aM.ofX [(false, va_rf a0), (false, .int a1)] rfl (ap_r (ap_c rfl ap_0)) (by decide +kernel) hst (al_of (aw_r (aw_i aw_0)) (by decide)) fun p e s m args below meth c X => V.sub (lv' := [(0, false, va_rf a0), (1, false, .int a1)]) [0, 1] rfl (vX2_foundShare X hf)
def fX2_sharedCells_p21 (D : aD) (h : aH) (a0 : Option Nat) : Option (Int32 × aH) :=
  (aIs h 1 a0).bind fun _ =>
  bnd2 (fX2_err D h a0 (1 : Int32)) fun x2 h3 =>
  some (x2, h3)
theorem vX2_sharedCells_p21 {h : aH} {a0 : Option Nat} {q : Int32} {g : aH} (X : aX p l R s m meth c D n0 s0 yX2_sharedCells cX2_sharedCells 4 88 3 (some .int) h0) (hf : fX2_sharedCells_p21 D h a0 = some (q, g)) : V p l e R s m args below meth c D n0 s0 (aEnd D below args s h0 (.inr (some (.int q)), g)) h 21 [(0, false, va_rf a0)] [] := by
  have C := X.1
  unfold fX2_sharedCells_p21 at hf
  refine v_aload_n (pc := 21) (j := 0) C dX2_sharedCells_21 rfl rfl ?_
  refine v_iconst (pc := 22) (v := (1 : Int32)) C dX2_sharedCells_22 rfl ?_
  obtain ⟨b1, eb1, hf⟩ := oB hf
  obtain ⟨rb1, _, kb1⟩ := aIs_eq eb1
  obtain ⟨x2, h3, ex2, hf⟩ := bnd2_eq hf
  refine v_call (pc := 23) (d_V (pc := 23) C (As := [.int (1 : Int32)]) (rest := []) rb1 kb1 nt_1 q2498 yi_X2_err_FigureSurveyModel yk_X2_err rfl (by decide) (by decide) (Nat.le_trans aw_0 (by decide)) rfl (mX2_err C.st ex2) dX2_sharedCells_23) ?_
  cases hf
  exact v_ireturn (pc := 26) C X.2.1 X.2.2.1 X.2.2.2.1 rfl dX2_sharedCells_26
def fX2_sharedCells (D : aD) (h : aH) (a0 : Option Nat) (a1 : Int32) (a2 : Int32) : Option (Int32 × aH) :=
  (pF D h 1 0 a0 (.int (0 : Int32))).bind fun h1 =>
  (aIs h1 1 a0).bind fun _ =>
  (fX2_noFigure D h1 a0 a1).bind fun x3 =>
  if x3 = 0 then
  ((aIs h1 1 a0).bind fun _ =>
  (fX2_noFigure D h1 a0 a2).bind fun x6 =>
  if x6 = 0 then
  ((aIs h1 1 a0).bind fun _ =>
  (fX2_panelOf D h1 a0 a1).bind fun x9 =>
  (aIs h1 1 a0).bind fun _ =>
  (fX2_panelOf D h1 a0 a2).bind fun x12 =>
  if x9 = x12 then
  ((aIs h1 1 a0).bind fun _ =>
  (fX2_cells D h1 a0 a1).bind fun x15 =>
  (aIs h1 1 a0).bind fun _ =>
  (fX2_cells D h1 a0 a2).bind fun x18 =>
  (fJ21_bitCount D h1 (x15 &&& x18)).bind fun x21 =>
  some (x21, h1))
  else
  (some ((0 : Int32), h1)))
  else
  (fX2_sharedCells_p21 D h1 a0))
  else
  (fX2_sharedCells_p21 D h1 a0)
theorem vX2_sharedCells {h : aH} {a0 : Option Nat} {a1 : Int32} {a2 : Int32} {q : Int32} {g : aH} (X : aX p l R s m meth c D n0 s0 yX2_sharedCells cX2_sharedCells 4 88 3 (some .int) h0) (hf : fX2_sharedCells D h a0 a1 a2 = some (q, g)) : V p l e R s m args below meth c D n0 s0 (aEnd D below args s h0 (.inr (some (.int q)), g)) h 0 [(0, false, va_rf a0), (1, false, .int a1), (2, false, .int a2)] [] := by
  have C := X.1
  unfold fX2_sharedCells at hf
  refine v_aload_n (pc := 0) (j := 0) C dX2_sharedCells_0 rfl rfl ?_
  refine v_iconst (pc := 1) (v := (0 : Int32)) C dX2_sharedCells_1 rfl ?_
  obtain ⟨h1, eh1, hf⟩ := oB hf
  refine v_putF (pc := 2) C lk_X2_69 tyX2 tyX2_ok nmX2 (tyX2_ok 0 (by decide)) rfl rfl eh1 dX2_sharedCells_2 ?_
  refine v_aload_n (pc := 5) (j := 0) C dX2_sharedCells_5 rfl rfl ?_
  refine v_iload_n (pc := 6) (j := 1) C dX2_sharedCells_6 rfl rfl ?_
  obtain ⟨b2, eb2, hf⟩ := oB hf
  obtain ⟨rb2, _, kb2⟩ := aIs_eq eb2
  obtain ⟨x3, ex3, hf⟩ := oB hf
  refine v_call (pc := 7) (d_V (pc := 7) C (As := [.int a1]) (rest := []) rb2 kb2 nt_1 q2560 yi_X2_noFigure_FigureSurveyModel yk_X2_noFigure rfl (by decide) (by decide) (Nat.le_trans aw_0 (by decide)) rfl (mX2_noFigure C.st ex3) dX2_sharedCells_7) ?_
  refine v_if_ne (pc := 10) (tgt := 21) C dX2_sharedCells_10 rfl (fun hc => ?_) (fun hc => ?_)
  · rw [if_neg hc] at hf
    exact V.sub [0] rfl (vX2_sharedCells_p21 X hf)
  · rw [if_pos (Decidable.of_not_not hc)] at hf
    refine v_aload_n (pc := 13) (j := 0) C dX2_sharedCells_13 rfl rfl ?_
    refine v_iload_n (pc := 14) (j := 2) C dX2_sharedCells_14 rfl rfl ?_
    obtain ⟨b5, eb5, hf⟩ := oB hf
    obtain ⟨rb5, _, kb5⟩ := aIs_eq eb5
    obtain ⟨x6, ex6, hf⟩ := oB hf
    refine v_call (pc := 15) (d_V (pc := 15) C (As := [.int a2]) (rest := []) rb5 kb5 nt_1 q2560 yi_X2_noFigure_FigureSurveyModel yk_X2_noFigure rfl (by decide) (by decide) (Nat.le_trans aw_0 (by decide)) rfl (mX2_noFigure C.st ex6) dX2_sharedCells_15) ?_
    refine v_if_eq (pc := 18) (tgt := 27) C dX2_sharedCells_18 rfl (fun hc => ?_) (fun hc => ?_)
    · rw [if_pos hc] at hf
      refine v_aload_n (pc := 27) (j := 0) C dX2_sharedCells_27 rfl rfl ?_
      refine v_iload_n (pc := 28) (j := 1) C dX2_sharedCells_28 rfl rfl ?_
      obtain ⟨b8, eb8, hf⟩ := oB hf
      obtain ⟨rb8, _, kb8⟩ := aIs_eq eb8
      obtain ⟨x9, ex9, hf⟩ := oB hf
      refine v_call (pc := 29) (d_V (pc := 29) C (As := [.int a1]) (rest := []) rb8 kb8 nt_1 q2552 yi_X2_panelOf_FigureSurveyModel yk_X2_panelOf rfl (by decide) (by decide) (Nat.le_trans aw_0 (by decide)) rfl (mX2_panelOf C.st ex9) dX2_sharedCells_29) ?_
      refine v_aload_n (pc := 32) (j := 0) C dX2_sharedCells_32 rfl rfl ?_
      refine v_iload_n (pc := 33) (j := 2) C dX2_sharedCells_33 rfl rfl ?_
      obtain ⟨b11, eb11, hf⟩ := oB hf
      obtain ⟨rb11, _, kb11⟩ := aIs_eq eb11
      obtain ⟨x12, ex12, hf⟩ := oB hf
      refine v_call (pc := 34) (d_V (pc := 34) C (As := [.int a2]) (rest := [.int x9]) rb11 kb11 nt_1 q2552 yi_X2_panelOf_FigureSurveyModel yk_X2_panelOf rfl (by decide) (by decide) (Nat.le_trans (aw_i aw_0) (by decide)) rfl (mX2_panelOf C.st ex12) dX2_sharedCells_34) ?_
      refine v_icmp_ne (pc := 37) (tgt := 57) C dX2_sharedCells_37 rfl (fun hc => ?_) (fun hc => ?_)
      · rw [if_neg hc] at hf
        refine v_iconst (pc := 57) (v := (0 : Int32)) C dX2_sharedCells_57 rfl ?_
        cases hf
        exact v_ireturn (pc := 58) C X.2.1 X.2.2.1 X.2.2.2.1 rfl dX2_sharedCells_58
      · rw [if_pos (Decidable.of_not_not hc)] at hf
        refine v_aload_n (pc := 40) (j := 0) C dX2_sharedCells_40 rfl rfl ?_
        refine v_iload_n (pc := 41) (j := 1) C dX2_sharedCells_41 rfl rfl ?_
        obtain ⟨b14, eb14, hf⟩ := oB hf
        obtain ⟨rb14, _, kb14⟩ := aIs_eq eb14
        obtain ⟨x15, ex15, hf⟩ := oB hf
        refine v_call (pc := 42) (d_V (pc := 42) C (As := [.int a1]) (rest := []) rb14 kb14 nt_1 q2572 yi_X2_cells_FigureSurveyModel yk_X2_cells rfl (by decide) (by decide) (Nat.le_trans aw_0 (by decide)) rfl (mX2_cells C.st ex15) dX2_sharedCells_42) ?_
        refine v_aload_n (pc := 45) (j := 0) C dX2_sharedCells_45 rfl rfl ?_
        refine v_iload_n (pc := 46) (j := 2) C dX2_sharedCells_46 rfl rfl ?_
        obtain ⟨b17, eb17, hf⟩ := oB hf
        obtain ⟨rb17, _, kb17⟩ := aIs_eq eb17
        obtain ⟨x18, ex18, hf⟩ := oB hf
        refine v_call (pc := 47) (d_V (pc := 47) C (As := [.int a2]) (rest := [.long x15]) rb17 kb17 nt_1 q2572 yi_X2_cells_FigureSurveyModel yk_X2_cells rfl (by decide) (by decide) (Nat.le_trans (aw_l aw_0) (by decide)) rfl (mX2_cells C.st ex18) dX2_sharedCells_47) ?_
        refine v_land (pc := 50) C dX2_sharedCells_50 ?_
        obtain ⟨x21, ex21, hf⟩ := oB hf
        refine v_call (pc := 51) (d_S (pc := 51) C (As := [.long (x15 &&& x18)]) (rest := []) q2581 q558 yk_J21_bitCount rfl (by decide) (by decide) (Nat.le_trans aw_0 (by decide)) rfl (mJ21_bitCount C.st ex21) dX2_sharedCells_51) ?_
        refine v_goto (pc := 54) (tgt := 58) C dX2_sharedCells_54 rfl ?_
        cases hf
        exact v_ireturn (pc := 58) C X.2.1 X.2.2.1 X.2.2.2.1 rfl dX2_sharedCells_58
    · rw [if_neg hc] at hf
      exact V.sub [0] rfl (vX2_sharedCells_p21 X hf)
theorem mX2_sharedCells {l : Launch} {D : aD} {h : aH} {a0 : Option Nat} {a1 : Int32} {a2 : Int32} {q : Int32} {g : aH} (hst : l.stackTraces = false) (hf : fX2_sharedCells D h a0 a1 a2 = some (q, g)) : aM l D yX2_sharedCells cX2_sharedCells 3 (some .int) 4 88 [va_rf a0, .int a1, .int a2] h (.inr (some (.int q)), g) :=
  aM.ofX [(false, va_rf a0), (false, .int a1), (false, .int a2)] rfl (ap_r (ap_c rfl (ap_c rfl ap_0))) (by decide +kernel) hst (al_of (aw_r (aw_i (aw_i aw_0))) (by decide)) fun p e s m args below meth c X => V.sub (lv' := [(0, false, va_rf a0), (1, false, .int a1), (2, false, .int a2)]) [0, 1, 2] rfl (vX2_sharedCells X hf)
def fX2_harm (D : aD) (h : aH) (a0 : Option Nat) (a1 : Int32) (a2 : Int64) : Option (Int32 × aH) :=
  (pF D h 1 0 a0 (.int (0 : Int32))).bind fun h1 =>
  (aIs h1 1 a0).bind fun _ =>
  (fX2_noPanel D h1 a0 a1).bind fun x3 =>
  if x3 = 0 then
  ((aIs h1 1 a0).bind fun _ =>
  (fX2_drowned D h1 a0 a1).bind fun x6 =>
  if x6 = 0 then
  ((gR h1 1 6 a0).bind fun x8 =>
  (eL h1 x8 a1).bind fun x9 =>
  (fJ21_bitCount D h1 (a2 &&& (x9 ^^^ (-1 : Int64)))).bind fun x11 =>
  (gR h1 1 6 a0).bind fun x13 =>
  (eL h1 x13 a1).bind fun x14 =>
  (sF D h1 101 x13 a1 (.long (x14 ||| a2))).bind fun h15 =>
  some (x11, h15))
  else
  ((aIs h1 1 a0).bind fun _ =>
  bnd2 (fX2_err D h1 a0 (2 : Int32)) fun x17 h18 =>
  some (x17, h18)))
  else
  ((aIs h1 1 a0).bind fun _ =>
  bnd2 (fX2_err D h1 a0 (1 : Int32)) fun x20 h21 =>
  some (x20, h21))
theorem vX2_harm {h : aH} {a0 : Option Nat} {a1 : Int32} {a2 : Int64} {q : Int32} {g : aH} (X : aX p l R s m meth c D n0 s0 yX2_harm cX2_harm 5 106 5 (some .int) h0) (hf : fX2_harm D h a0 a1 a2 = some (q, g)) : V p l e R s m args below meth c D n0 s0 (aEnd D below args s h0 (.inr (some (.int q)), g)) h 0 [(0, false, va_rf a0), (1, false, .int a1), (2, true, .long a2)] [] := by
  have C := X.1
  unfold fX2_harm at hf
  refine v_aload_n (pc := 0) (j := 0) C dX2_harm_0 rfl rfl ?_
  refine v_iconst (pc := 1) (v := (0 : Int32)) C dX2_harm_1 rfl ?_
  obtain ⟨h1, eh1, hf⟩ := oB hf
  refine v_putF (pc := 2) C lk_X2_69 tyX2 tyX2_ok nmX2 (tyX2_ok 0 (by decide)) rfl rfl eh1 dX2_harm_2 ?_
  refine v_aload_n (pc := 5) (j := 0) C dX2_harm_5 rfl rfl ?_
  refine v_iload_n (pc := 6) (j := 1) C dX2_harm_6 rfl rfl ?_
  obtain ⟨b2, eb2, hf⟩ := oB hf
  obtain ⟨rb2, _, kb2⟩ := aIs_eq eb2
  obtain ⟨x3, ex3, hf⟩ := oB hf
  refine v_call (pc := 7) (d_V (pc := 7) C (As := [.int a1]) (rest := []) rb2 kb2 nt_1 q2508 yi_X2_noPanel_FigureSurveyModel yk_X2_noPanel rfl (by decide) (by decide) (Nat.le_trans aw_0 (by decide)) rfl (mX2_noPanel C.st ex3) dX2_harm_7) ?_
  refine v_if_eq (pc := 10) (tgt := 19) C dX2_harm_10 rfl (fun hc => ?_) (fun hc => ?_)
  · rw [if_pos hc] at hf
    refine v_aload_n (pc := 19) (j := 0) C dX2_harm_19 rfl rfl ?_
    refine v_iload_n (pc := 20) (j := 1) C dX2_harm_20 rfl rfl ?_
    obtain ⟨b5, eb5, hf⟩ := oB hf
    obtain ⟨rb5, _, kb5⟩ := aIs_eq eb5
    obtain ⟨x6, ex6, hf⟩ := oB hf
    refine v_call (pc := 21) (d_V (pc := 21) C (As := [.int a1]) (rest := []) rb5 kb5 nt_1 q2512 yi_X2_drowned_FigureSurveyModel yk_X2_drowned rfl (by decide) (by decide) (Nat.le_trans aw_0 (by decide)) rfl (mX2_drowned C.st ex6) dX2_harm_21) ?_
    refine v_if_eq (pc := 24) (tgt := 33) C dX2_harm_24 rfl (fun hc => ?_) (fun hc => ?_)
    · rw [if_pos hc] at hf
      refine v_lload_n (pc := 33) (j := 2) C dX2_harm_33 rfl rfl ?_
      refine v_aload_n (pc := 34) (j := 0) C dX2_harm_34 rfl rfl ?_
      obtain ⟨x8, ex8, hf⟩ := oB hf
      refine v_getF (pc := 35) C lk_X2_23 (gR_eq ex8) dX2_harm_35 ?_
      refine v_iload_n (pc := 38) (j := 1) C dX2_harm_38 rfl rfl ?_
      obtain ⟨x9, ex9, hf⟩ := oB hf
      refine v_laload (pc := 39) C ex9 dX2_harm_39 ?_
      refine v_ldc2 (pc := 40) (v := (-1 : Int64)) C q2576 dX2_harm_40 ?_
      refine v_lxor (pc := 43) C dX2_harm_43 ?_
      refine v_land (pc := 44) C dX2_harm_44 ?_
      obtain ⟨x11, ex11, hf⟩ := oB hf
      refine v_call (pc := 45) (d_S (pc := 45) C (As := [.long (a2 &&& (x9 ^^^ (-1 : Int64)))]) (rest := []) q2581 q558 yk_J21_bitCount rfl (by decide) (by decide) (Nat.le_trans aw_0 (by decide)) rfl (mJ21_bitCount C.st ex11) dX2_harm_45) ?_
      refine v_istore (pc := 48) (lv' := [(4, false, .int x11), (0, false, va_rf a0), (1, false, .int a1), (2, true, .long a2)]) C dX2_harm_48 (by decide) rfl ?_
      refine v_aload_n (pc := 50) (j := 1) C dX2_harm_50 rfl rfl ?_
      obtain ⟨x13, ex13, hf⟩ := oB hf
      refine v_getF (pc := 51) C lk_X2_23 (gR_eq ex13) dX2_harm_51 ?_
      refine v_iload_n (pc := 54) (j := 2) C dX2_harm_54 rfl rfl ?_
      refine v_dup2_11 (pc := 55) C dX2_harm_55 rfl (va_rfc _) ?_
      obtain ⟨x14, ex14, hf⟩ := oB hf
      refine v_laload (pc := 56) C ex14 dX2_harm_56 ?_
      refine v_lload_n (pc := 57) (j := 3) C dX2_harm_57 rfl rfl ?_
      refine v_lor (pc := 58) C dX2_harm_58 ?_
      obtain ⟨h15, eh15, hf⟩ := oB hf
      refine v_lastore (pc := 59) C eh15 dX2_harm_59 ?_
      refine v_iload (pc := 60) (j := 0) C dX2_harm_60 rfl ?_
      cases hf
      exact v_ireturn (pc := 62) C X.2.1 X.2.2.1 X.2.2.2.1 rfl dX2_harm_62
    · rw [if_neg hc] at hf
      refine v_aload_n (pc := 27) (j := 0) C dX2_harm_27 rfl rfl ?_
      refine v_iconst (pc := 28) (v := (2 : Int32)) C dX2_harm_28 rfl ?_
      obtain ⟨b16, eb16, hf⟩ := oB hf
      obtain ⟨rb16, _, kb16⟩ := aIs_eq eb16
      obtain ⟨x17, h18, ex17, hf⟩ := bnd2_eq hf
      refine v_call (pc := 29) (d_V (pc := 29) C (As := [.int (2 : Int32)]) (rest := []) rb16 kb16 nt_1 q2498 yi_X2_err_FigureSurveyModel yk_X2_err rfl (by decide) (by decide) (Nat.le_trans aw_0 (by decide)) rfl (mX2_err C.st ex17) dX2_harm_29) ?_
      cases hf
      exact v_ireturn (pc := 32) C X.2.1 X.2.2.1 X.2.2.2.1 rfl dX2_harm_32
  · rw [if_neg hc] at hf
    refine v_aload_n (pc := 13) (j := 0) C dX2_harm_13 rfl rfl ?_
    refine v_iconst (pc := 14) (v := (1 : Int32)) C dX2_harm_14 rfl ?_
    obtain ⟨b19, eb19, hf⟩ := oB hf
    obtain ⟨rb19, _, kb19⟩ := aIs_eq eb19
    obtain ⟨x20, h21, ex20, hf⟩ := bnd2_eq hf
    refine v_call (pc := 15) (d_V (pc := 15) C (As := [.int (1 : Int32)]) (rest := []) rb19 kb19 nt_1 q2498 yi_X2_err_FigureSurveyModel yk_X2_err rfl (by decide) (by decide) (Nat.le_trans aw_0 (by decide)) rfl (mX2_err C.st ex20) dX2_harm_15) ?_
    cases hf
    exact v_ireturn (pc := 18) C X.2.1 X.2.2.1 X.2.2.2.1 rfl dX2_harm_18
theorem mX2_harm {l : Launch} {D : aD} {h : aH} {a0 : Option Nat} {a1 : Int32} {a2 : Int64} {q : Int32} {g : aH} (hst : l.stackTraces = false) (hf : fX2_harm D h a0 a1 a2 = some (q, g)) : aM l D yX2_harm cX2_harm 5 (some .int) 5 106 [va_rf a0, .int a1, .long a2] h (.inr (some (.int q)), g) :=
  aM.ofX [(false, va_rf a0), (false, .int a1), (true, .long a2)] rfl (ap_r (ap_c rfl (ap_c rfl ap_0))) (by decide +kernel) hst (al_of (aw_r (aw_i (aw_l aw_0))) (by decide)) fun p e s m args below meth c X => V.sub (lv' := [(0, false, va_rf a0), (1, false, .int a1), (2, true, .long a2)]) [0, 1, 2] rfl (vX2_harm X hf)
def fX2_cast_p88 (D : aD) (K37 : aH → (Option Nat) → Int32 → Int32 → Int32 → Option (Int32 × aH)) (h : aH) (a0 : Option Nat) (a1 : Int32) (a2 : Int32) (a3 : Int32) : Option (Int32 × aH) :=
  K37 h a0 a1 a2 (a3 + 1)
theorem vX2_cast_p88 {h : aH} {K37 : aH → (Option Nat) → Int32 → Int32 → Int32 → Option (Int32 × aH)} {a0 : Option Nat} {a1 : Int32} {a2 : Int32} {a3 : Int32} {q : Int32} {g : aH} (X : aX p l R s m meth c D n0 s0 yX2_cast cX2_cast 5 106 5 (some .int) h0) (k37 : ∀ (h : aH) (a0 : Option Nat) (a1 : Int32) (a2 : Int32) (a3 : Int32) (q : Int32) (g : aH), K37 h a0 a1 a2 a3 = some (q, g) → V p l e R s m args below meth c D n0 s0 (aEnd D below args s h0 (.inr (some (.int q)), g)) h 37 [(0, false, va_rf a0), (1, false, .int a1), (2, false, .int a2), (3, false, .int a3)] []) (hf : fX2_cast_p88 D K37 h a0 a1 a2 a3 = some (q, g)) : V p l e R s m args below meth c D n0 s0 (aEnd D below args s h0 (.inr (some (.int q)), g)) h 88 [(0, false, va_rf a0), (1, false, .int a1), (2, false, .int a2), (3, false, .int a3)] [] := by
  have C := X.1
  unfold fX2_cast_p88 at hf
  refine v_iinc (pc := 88) (j := 3) (v := (a3 + 1)) (lv' := [(3, false, .int (a3 + 1)), (0, false, va_rf a0), (1, false, .int a1), (2, false, .int a2)]) C dX2_cast_88 rfl rfl (by decide) rfl ?_
  refine v_goto (pc := 91) (tgt := 37) C dX2_cast_91 rfl ?_
  exact V.sub [1, 2, 3, 0] rfl (k37 _ _ _ _ _ _ _ hf)
def fX2_cast_p37 (D : aD) : Nat → aH → (Option Nat) → Int32 → Int32 → Int32 → Option (Int32 × aH)
  | 0, _, _, _, _, _ => none
  | n + 1, h, a0, a1, a2, a3 =>
  (gR h 1 7 a0).bind fun x1 =>
  (aIs h 15 x1).bind fun _ =>
  (fJ2_size D h x1).bind fun x3 =>
  if x3 ≤ a3 then
  (some (a2, h))
  else
  ((gR h 1 7 a0).bind fun x5 =>
  (aIs h 15 x5).bind fun _ =>
  (fJ2_get D h x5 a3).bind fun x7 =>
  (aCast h [100] x7).bind fun _ =>
  (eI h x7 (0 : Int32)).bind fun x10 =>
  if x10 = a1 then
  ((eI h x7 (1 : Int32)).bind fun x11 =>
  if x11 = (1 : Int32) then
  (fX2_cast_p88 D (fX2_cast_p37 D n) h a0 a1 a2 a3)
  else
  ((sF D h 100 x7 (1 : Int32) (.int (1 : Int32))).bind fun h12 =>
  fX2_cast_p88 D (fX2_cast_p37 D n) h12 a0 a1 (a2 + 1) a3))
  else
  (fX2_cast_p88 D (fX2_cast_p37 D n) h a0 a1 a2 a3))
theorem vX2_cast_p37 (X : aX p l R s m meth c D n0 s0 yX2_cast cX2_cast 5 106 5 (some .int) h0) : ∀ (n : Nat) (h : aH) (a0 : Option Nat) (a1 : Int32) (a2 : Int32) (a3 : Int32) (q : Int32) (g : aH), fX2_cast_p37 D n h a0 a1 a2 a3 = some (q, g) → V p l e R s m args below meth c D n0 s0 (aEnd D below args s h0 (.inr (some (.int q)), g)) h 37 [(0, false, va_rf a0), (1, false, .int a1), (2, false, .int a2), (3, false, .int a3)] [] := by
  have C := X.1
  intro n
  induction n with
  | zero =>
    intro _ _ _ _ _ _ _ hf
    rw [fX2_cast_p37] at hf
    cases hf
  | succ n ih =>
    intro h a0 a1 a2 a3 q g hf
    rw [fX2_cast_p37] at hf
    refine v_iload_n (pc := 37) (j := 3) C dX2_cast_37 rfl rfl ?_
    refine v_aload_n (pc := 38) (j := 0) C dX2_cast_38 rfl rfl ?_
    obtain ⟨x1, ex1, hf⟩ := oB hf
    refine v_getF (pc := 39) C lk_X2_27 (gR_eq ex1) dX2_cast_39 ?_
    obtain ⟨b2, eb2, hf⟩ := oB hf
    obtain ⟨rb2, _, kb2⟩ := aIs_eq eb2
    obtain ⟨x3, ex3, hf⟩ := oB hf
    refine v_call (pc := 42) (d_V (pc := 42) C (As := []) (rest := [.int a3]) rb2 kb2 nt_15 q2502 yi_J2_size_java_util_ArrayList yk_J2_size rfl (by decide) (by decide) (Nat.le_trans (aw_i aw_0) (by decide)) rfl (mJ2_size C.st ex3) dX2_cast_42) ?_
    refine v_icmp_ge (pc := 45) (tgt := 94) C dX2_cast_45 rfl (fun hc => ?_) (fun hc => ?_)
    · rw [if_pos hc] at hf
      refine v_iload_n (pc := 94) (j := 2) C dX2_cast_94 rfl rfl ?_
      cases hf
      exact v_ireturn (pc := 95) C X.2.1 X.2.2.1 X.2.2.2.1 rfl dX2_cast_95
    · rw [if_neg hc] at hf
      refine v_aload_n (pc := 48) (j := 0) C dX2_cast_48 rfl rfl ?_
      obtain ⟨x5, ex5, hf⟩ := oB hf
      refine v_getF (pc := 49) C lk_X2_27 (gR_eq ex5) dX2_cast_49 ?_
      refine v_iload_n (pc := 52) (j := 3) C dX2_cast_52 rfl rfl ?_
      obtain ⟨b6, eb6, hf⟩ := oB hf
      obtain ⟨rb6, _, kb6⟩ := aIs_eq eb6
      obtain ⟨x7, ex7, hf⟩ := oB hf
      refine v_call (pc := 53) (d_V (pc := 53) C (As := [.int a3]) (rest := []) rb6 kb6 nt_15 q2520 yi_J2_get_java_util_ArrayList yk_J2_get rfl (by decide) (by decide) (Nat.le_trans aw_0 (by decide)) rfl (mJ2_get C.st ex7) dX2_cast_53) ?_
      obtain ⟨_, e9, hf⟩ := oB hf
      refine v_cast (pc := 56) C q2521 ct__I e9 dX2_cast_56 ?_
      refine v_astore (pc := 59) (lv' := [(4, false, va_rf x7), (0, false, va_rf a0), (1, false, .int a1), (2, false, .int a2), (3, false, .int a3)]) C dX2_cast_59 (by decide) rfl ?_
      refine v_aload (pc := 61) (j := 0) C dX2_cast_61 rfl ?_
      refine v_iconst (pc := 63) (v := (0 : Int32)) C dX2_cast_63 rfl ?_
      obtain ⟨x10, ex10, hf⟩ := oB hf
      refine v_iaload (pc := 64) C ex10 dX2_cast_64 ?_
      refine v_iload_n (pc := 65) (j := 2) C dX2_cast_65 rfl rfl ?_
      refine v_icmp_ne (pc := 66) (tgt := 88) C dX2_cast_66 rfl (fun hc => ?_) (fun hc => ?_)
      · rw [if_neg hc] at hf
        exact V.sub [1, 2, 3, 4] rfl (vX2_cast_p88 X ih hf)
      · rw [if_pos (Decidable.of_not_not hc)] at hf
        refine v_aload (pc := 69) (j := 0) C dX2_cast_69 rfl ?_
        refine v_iconst (pc := 71) (v := (1 : Int32)) C dX2_cast_71 rfl ?_
        obtain ⟨x11, ex11, hf⟩ := oB hf
        refine v_iaload (pc := 72) C ex11 dX2_cast_72 ?_
        refine v_iconst (pc := 73) (v := (1 : Int32)) C dX2_cast_73 rfl ?_
        refine v_icmp_ne (pc := 74) (tgt := 80) C dX2_cast_74 rfl (fun hc => ?_) (fun hc => ?_)
        · rw [if_neg hc] at hf
          refine v_aload (pc := 80) (j := 0) C dX2_cast_80 rfl ?_
          refine v_iconst (pc := 82) (v := (1 : Int32)) C dX2_cast_82 rfl ?_
          refine v_iconst (pc := 83) (v := (1 : Int32)) C dX2_cast_83 rfl ?_
          obtain ⟨h12, eh12, hf⟩ := oB hf
          refine v_iastore (pc := 84) C eh12 dX2_cast_84 ?_
          refine v_iinc (pc := 85) (j := 3) (v := (a2 + 1)) (lv' := [(2, false, .int (a2 + 1)), (4, false, va_rf x7), (0, false, va_rf a0), (1, false, .int a1), (3, false, .int a3)]) C dX2_cast_85 rfl rfl (by decide) rfl ?_
          exact V.sub [2, 3, 0, 4] rfl (vX2_cast_p88 X ih hf)
        · rw [if_pos (Decidable.of_not_not hc)] at hf
          refine v_goto (pc := 77) (tgt := 88) C dX2_cast_77 rfl ?_
          exact V.sub [1, 2, 3, 4] rfl (vX2_cast_p88 X ih hf)
def fX2_cast (D : aD) (h : aH) (a0 : Option Nat) (a1 : Int32) : Option (Int32 × aH) :=
  (pF D h 1 0 a0 (.int (0 : Int32))).bind fun h1 =>
  (aIs h1 1 a0).bind fun _ =>
  (fX2_noPanel D h1 a0 a1).bind fun x3 =>
  if x3 = 0 then
  ((aIs h1 1 a0).bind fun _ =>
  (fX2_drowned D h1 a0 a1).bind fun x6 =>
  if x6 = 0 then
  (fX2_cast_p37 D FU h1 a0 a1 (0 : Int32) (0 : Int32))
  else
  ((aIs h1 1 a0).bind fun _ =>
  bnd2 (fX2_err D h1 a0 (2 : Int32)) fun x9 h10 =>
  some (x9, h10)))
  else
  ((aIs h1 1 a0).bind fun _ =>
  bnd2 (fX2_err D h1 a0 (1 : Int32)) fun x12 h13 =>
  some (x12, h13))
theorem vX2_cast {h : aH} {a0 : Option Nat} {a1 : Int32} {q : Int32} {g : aH} (X : aX p l R s m meth c D n0 s0 yX2_cast cX2_cast 5 106 5 (some .int) h0) (hf : fX2_cast D h a0 a1 = some (q, g)) : V p l e R s m args below meth c D n0 s0 (aEnd D below args s h0 (.inr (some (.int q)), g)) h 0 [(0, false, va_rf a0), (1, false, .int a1)] [] := by
  have C := X.1
  unfold fX2_cast at hf
  refine v_aload_n (pc := 0) (j := 0) C dX2_cast_0 rfl rfl ?_
  refine v_iconst (pc := 1) (v := (0 : Int32)) C dX2_cast_1 rfl ?_
  obtain ⟨h1, eh1, hf⟩ := oB hf
  refine v_putF (pc := 2) C lk_X2_69 tyX2 tyX2_ok nmX2 (tyX2_ok 0 (by decide)) rfl rfl eh1 dX2_cast_2 ?_
  refine v_aload_n (pc := 5) (j := 0) C dX2_cast_5 rfl rfl ?_
  refine v_iload_n (pc := 6) (j := 1) C dX2_cast_6 rfl rfl ?_
  obtain ⟨b2, eb2, hf⟩ := oB hf
  obtain ⟨rb2, _, kb2⟩ := aIs_eq eb2
  obtain ⟨x3, ex3, hf⟩ := oB hf
  refine v_call (pc := 7) (d_V (pc := 7) C (As := [.int a1]) (rest := []) rb2 kb2 nt_1 q2508 yi_X2_noPanel_FigureSurveyModel yk_X2_noPanel rfl (by decide) (by decide) (Nat.le_trans aw_0 (by decide)) rfl (mX2_noPanel C.st ex3) dX2_cast_7) ?_
  refine v_if_eq (pc := 10) (tgt := 19) C dX2_cast_10 rfl (fun hc => ?_) (fun hc => ?_)
  · rw [if_pos hc] at hf
    refine v_aload_n (pc := 19) (j := 0) C dX2_cast_19 rfl rfl ?_
    refine v_iload_n (pc := 20) (j := 1) C dX2_cast_20 rfl rfl ?_
    obtain ⟨b5, eb5, hf⟩ := oB hf
    obtain ⟨rb5, _, kb5⟩ := aIs_eq eb5
    obtain ⟨x6, ex6, hf⟩ := oB hf
    refine v_call (pc := 21) (d_V (pc := 21) C (As := [.int a1]) (rest := []) rb5 kb5 nt_1 q2512 yi_X2_drowned_FigureSurveyModel yk_X2_drowned rfl (by decide) (by decide) (Nat.le_trans aw_0 (by decide)) rfl (mX2_drowned C.st ex6) dX2_cast_21) ?_
    refine v_if_eq (pc := 24) (tgt := 33) C dX2_cast_24 rfl (fun hc => ?_) (fun hc => ?_)
    · rw [if_pos hc] at hf
      refine v_iconst (pc := 33) (v := (0 : Int32)) C dX2_cast_33 rfl ?_
      refine v_istore_n (pc := 34) (lv' := [(2, false, .int (0 : Int32)), (0, false, va_rf a0), (1, false, .int a1)]) C dX2_cast_34 rfl (by decide) rfl ?_
      refine v_iconst (pc := 35) (v := (0 : Int32)) C dX2_cast_35 rfl ?_
      refine v_istore_n (pc := 36) (lv' := [(3, false, .int (0 : Int32)), (2, false, .int (0 : Int32)), (0, false, va_rf a0), (1, false, .int a1)]) C dX2_cast_36 rfl (by decide) rfl ?_
      exact V.sub [2, 3, 1, 0] rfl (vX2_cast_p37 X _ _ _ _ _ _ _ _ hf)
    · rw [if_neg hc] at hf
      refine v_aload_n (pc := 27) (j := 0) C dX2_cast_27 rfl rfl ?_
      refine v_iconst (pc := 28) (v := (2 : Int32)) C dX2_cast_28 rfl ?_
      obtain ⟨b8, eb8, hf⟩ := oB hf
      obtain ⟨rb8, _, kb8⟩ := aIs_eq eb8
      obtain ⟨x9, h10, ex9, hf⟩ := bnd2_eq hf
      refine v_call (pc := 29) (d_V (pc := 29) C (As := [.int (2 : Int32)]) (rest := []) rb8 kb8 nt_1 q2498 yi_X2_err_FigureSurveyModel yk_X2_err rfl (by decide) (by decide) (Nat.le_trans aw_0 (by decide)) rfl (mX2_err C.st ex9) dX2_cast_29) ?_
      cases hf
      exact v_ireturn (pc := 32) C X.2.1 X.2.2.1 X.2.2.2.1 rfl dX2_cast_32
  · rw [if_neg hc] at hf
    refine v_aload_n (pc := 13) (j := 0) C dX2_cast_13 rfl rfl ?_
    refine v_iconst (pc := 14) (v := (1 : Int32)) C dX2_cast_14 rfl ?_
    obtain ⟨b11, eb11, hf⟩ := oB hf
    obtain ⟨rb11, _, kb11⟩ := aIs_eq eb11
    obtain ⟨x12, h13, ex12, hf⟩ := bnd2_eq hf
    refine v_call (pc := 15) (d_V (pc := 15) C (As := [.int (1 : Int32)]) (rest := []) rb11 kb11 nt_1 q2498 yi_X2_err_FigureSurveyModel yk_X2_err rfl (by decide) (by decide) (Nat.le_trans aw_0 (by decide)) rfl (mX2_err C.st ex12) dX2_cast_15) ?_
    cases hf
    exact v_ireturn (pc := 18) C X.2.1 X.2.2.1 X.2.2.2.1 rfl dX2_cast_18
theorem mX2_cast {l : Launch} {D : aD} {h : aH} {a0 : Option Nat} {a1 : Int32} {q : Int32} {g : aH} (hst : l.stackTraces = false) (hf : fX2_cast D h a0 a1 = some (q, g)) : aM l D yX2_cast cX2_cast 5 (some .int) 5 106 [va_rf a0, .int a1] h (.inr (some (.int q)), g) :=
  aM.ofX [(false, va_rf a0), (false, .int a1)] rfl (ap_r (ap_c rfl ap_0)) (by decide +kernel) hst (al_of (aw_r (aw_i aw_0)) (by decide)) fun p e s m args below meth c X => V.sub (lv' := [(0, false, va_rf a0), (1, false, .int a1)]) [0, 1] rfl (vX2_cast X hf)
def fX2_trace_p34 (D : aD) (h : aH) (a0 : Option Nat) : Option (Int32 × aH) :=
  (aIs h 1 a0).bind fun _ =>
  bnd2 (fX2_err D h a0 (2 : Int32)) fun x2 h3 =>
  some (x2, h3)
theorem vX2_trace_p34 {h : aH} {a0 : Option Nat} {q : Int32} {g : aH} (X : aX p l R s m meth c D n0 s0 yX2_trace cX2_trace 7 152 5 (some .int) h0) (hf : fX2_trace_p34 D h a0 = some (q, g)) : V p l e R s m args below meth c D n0 s0 (aEnd D below args s h0 (.inr (some (.int q)), g)) h 34 [(0, false, va_rf a0)] [] := by
  have C := X.1
  unfold fX2_trace_p34 at hf
  refine v_aload_n (pc := 34) (j := 0) C dX2_trace_34 rfl rfl ?_
  refine v_iconst (pc := 35) (v := (2 : Int32)) C dX2_trace_35 rfl ?_
  obtain ⟨b1, eb1, hf⟩ := oB hf
  obtain ⟨rb1, _, kb1⟩ := aIs_eq eb1
  obtain ⟨x2, h3, ex2, hf⟩ := bnd2_eq hf
  refine v_call (pc := 36) (d_V (pc := 36) C (As := [.int (2 : Int32)]) (rest := []) rb1 kb1 nt_1 q2498 yi_X2_err_FigureSurveyModel yk_X2_err rfl (by decide) (by decide) (Nat.le_trans aw_0 (by decide)) rfl (mX2_err C.st ex2) dX2_trace_36) ?_
  cases hf
  exact v_ireturn (pc := 39) C X.2.1 X.2.2.1 X.2.2.2.1 rfl dX2_trace_39
def fX2_trace (D : aD) (h : aH) (a0 : Option Nat) (a1 : Int32) (a2 : Int32) (a3 : Int64) : Option (Int32 × aH) :=
  (pF D h 1 0 a0 (.int (0 : Int32))).bind fun h1 =>
  (aIs h1 1 a0).bind fun _ =>
  (fX2_noFigure D h1 a0 a2).bind fun x3 =>
  if x3 = 0 then
  ((fX2_in D h1 a1 (0 : Int32) (5 : Int32)).bind fun x6 =>
  if x6 = 0 then
  (fX2_trace_p34 D h1 a0)
  else
  (if (lg_cmp a3 (0 : Int64)) = 0 then
  (fX2_trace_p34 D h1 a0)
  else
  ((gR h1 1 11 a0).bind fun x8 =>
  (aIs h1 15 x8).bind fun _ =>
  (fJ2_size D h1 x8).bind fun x10 =>
  if x10 = (40 : Int32) then
  ((aIs h1 1 a0).bind fun _ =>
  bnd2 (fX2_err D h1 a0 (3 : Int32)) fun x30 h31 =>
  some (x30, h31))
  else
  ((gR h1 1 12 a0).bind fun x12 =>
  (gR h1 1 11 a0).bind fun x13 =>
  (aIs h1 15 x13).bind fun _ =>
  (fJ2_size D h1 x13).bind fun x15 =>
  (sF D h1 101 x12 x15 (.long a3)).bind fun h17 =>
  (gR h17 1 11 a0).bind fun x18 =>
  (aMkA D h17 100 (2 : Int32) (.int 0)).bind fun h19 =>
  (sF D h19 100 (some h17.1) (0 : Int32) (.int a1)).bind fun h20 =>
  (sF D h20 100 (some h17.1) (1 : Int32) (.int a2)).bind fun h21 =>
  (aIs h21 15 x18).bind fun _ =>
  bnd2 (fJ2_add D h21 x18 (some h17.1)) fun x23 h24 =>
  (gR h24 1 11 a0).bind fun x25 =>
  (aIs h24 15 x25).bind fun _ =>
  (fJ2_size D h24 x25).bind fun x27 =>
  some ((x27 - (1 : Int32)), h24)))))
  else
  ((aIs h1 1 a0).bind fun _ =>
  bnd2 (fX2_err D h1 a0 (1 : Int32)) fun x33 h34 =>
  some (x33, h34))
theorem vX2_trace {h : aH} {a0 : Option Nat} {a1 : Int32} {a2 : Int32} {a3 : Int64} {q : Int32} {g : aH} (X : aX p l R s m meth c D n0 s0 yX2_trace cX2_trace 7 152 5 (some .int) h0) (hf : fX2_trace D h a0 a1 a2 a3 = some (q, g)) : V p l e R s m args below meth c D n0 s0 (aEnd D below args s h0 (.inr (some (.int q)), g)) h 0 [(0, false, va_rf a0), (1, false, .int a1), (2, false, .int a2), (3, true, .long a3)] [] := by
  have C := X.1
  unfold fX2_trace at hf
  refine v_aload_n (pc := 0) (j := 0) C dX2_trace_0 rfl rfl ?_
  refine v_iconst (pc := 1) (v := (0 : Int32)) C dX2_trace_1 rfl ?_
  obtain ⟨h1, eh1, hf⟩ := oB hf
  refine v_putF (pc := 2) C lk_X2_69 tyX2 tyX2_ok nmX2 (tyX2_ok 0 (by decide)) rfl rfl eh1 dX2_trace_2 ?_
  refine v_aload_n (pc := 5) (j := 0) C dX2_trace_5 rfl rfl ?_
  refine v_iload_n (pc := 6) (j := 2) C dX2_trace_6 rfl rfl ?_
  obtain ⟨b2, eb2, hf⟩ := oB hf
  obtain ⟨rb2, _, kb2⟩ := aIs_eq eb2
  obtain ⟨x3, ex3, hf⟩ := oB hf
  refine v_call (pc := 7) (d_V (pc := 7) C (As := [.int a2]) (rest := []) rb2 kb2 nt_1 q2560 yi_X2_noFigure_FigureSurveyModel yk_X2_noFigure rfl (by decide) (by decide) (Nat.le_trans aw_0 (by decide)) rfl (mX2_noFigure C.st ex3) dX2_trace_7) ?_
  refine v_if_eq (pc := 10) (tgt := 19) C dX2_trace_10 rfl (fun hc => ?_) (fun hc => ?_)
  · rw [if_pos hc] at hf
    refine v_iload_n (pc := 19) (j := 1) C dX2_trace_19 rfl rfl ?_
    refine v_iconst (pc := 20) (v := (0 : Int32)) C dX2_trace_20 rfl ?_
    refine v_iconst (pc := 21) (v := (5 : Int32)) C dX2_trace_21 rfl ?_
    obtain ⟨x6, ex6, hf⟩ := oB hf
    refine v_call (pc := 22) (d_S (pc := 22) C (As := [.int a1, .int (0 : Int32), .int (5 : Int32)]) (rest := []) q2495 q2496 yk_X2_in rfl (by decide) (by decide) (Nat.le_trans aw_0 (by decide)) rfl (mX2_in C.st ex6) dX2_trace_22) ?_
    refine v_if_eq (pc := 25) (tgt := 34) C dX2_trace_25 rfl (fun hc => ?_) (fun hc => ?_)
    · rw [if_pos hc] at hf
      exact V.sub [0] rfl (vX2_trace_p34 X hf)
    · rw [if_neg hc] at hf
      refine v_lload_n (pc := 28) (j := 3) C dX2_trace_28 rfl rfl ?_
      refine v_lconst (pc := 29) (v := (0 : Int64)) C dX2_trace_29 rfl ?_
      refine v_lcmp (pc := 30) C dX2_trace_30 ?_
      refine v_if_ne (pc := 31) (tgt := 40) C dX2_trace_31 rfl (fun hc => ?_) (fun hc => ?_)
      · rw [if_neg hc] at hf
        refine v_aload_n (pc := 40) (j := 0) C dX2_trace_40 rfl rfl ?_
        obtain ⟨x8, ex8, hf⟩ := oB hf
        refine v_getF (pc := 41) C lk_X2_41 (gR_eq ex8) dX2_trace_41 ?_
        obtain ⟨b9, eb9, hf⟩ := oB hf
        obtain ⟨rb9, _, kb9⟩ := aIs_eq eb9
        obtain ⟨x10, ex10, hf⟩ := oB hf
        refine v_call (pc := 44) (d_V (pc := 44) C (As := []) (rest := []) rb9 kb9 nt_15 q2502 yi_J2_size_java_util_ArrayList yk_J2_size rfl (by decide) (by decide) (Nat.le_trans aw_0 (by decide)) rfl (mJ2_size C.st ex10) dX2_trace_44) ?_
        refine v_bipush (pc := 47) (v := (40 : Int32)) C dX2_trace_47 rfl ?_
        refine v_icmp_ne (pc := 49) (tgt := 58) C dX2_trace_49 rfl (fun hc => ?_) (fun hc => ?_)
        · rw [if_neg hc] at hf
          refine v_aload_n (pc := 58) (j := 0) C dX2_trace_58 rfl rfl ?_
          obtain ⟨x12, ex12, hf⟩ := oB hf
          refine v_getF (pc := 59) C lk_X2_44 (gR_eq ex12) dX2_trace_59 ?_
          refine v_aload_n (pc := 62) (j := 0) C dX2_trace_62 rfl rfl ?_
          obtain ⟨x13, ex13, hf⟩ := oB hf
          refine v_getF (pc := 63) C lk_X2_41 (gR_eq ex13) dX2_trace_63 ?_
          obtain ⟨b14, eb14, hf⟩ := oB hf
          obtain ⟨rb14, _, kb14⟩ := aIs_eq eb14
          obtain ⟨x15, ex15, hf⟩ := oB hf
          refine v_call (pc := 66) (d_V (pc := 66) C (As := []) (rest := [va_rf x12]) rb14 kb14 nt_15 q2502 yi_J2_size_java_util_ArrayList yk_J2_size rfl (by decide) (by decide) (Nat.le_trans (aw_r aw_0) (by decide)) rfl (mJ2_size C.st ex15) dX2_trace_66) ?_
          refine v_lload_n (pc := 69) (j := 3) C dX2_trace_69 rfl rfl ?_
          obtain ⟨h17, eh17, hf⟩ := oB hf
          refine v_lastore (pc := 70) C eh17 dX2_trace_70 ?_
          refine v_aload_n (pc := 71) (j := 0) C dX2_trace_71 rfl rfl ?_
          obtain ⟨x18, ex18, hf⟩ := oB hf
          refine v_getF (pc := 72) C lk_X2_41 (gR_eq ex18) dX2_trace_72 ?_
          refine v_iconst (pc := 75) (v := (2 : Int32)) C dX2_trace_75 rfl ?_
          obtain ⟨h19, eh19, hf⟩ := oB hf
          refine v_newarray (pc := 76) (t := 100) (v := .int 0) C q169 rfl rfl (by decide) (by decide) rfl eh19 dX2_trace_76 ?_
          refine v_dup (pc := 78) C dX2_trace_78 (va_rfc _) ?_
          refine v_iconst (pc := 79) (v := (0 : Int32)) C dX2_trace_79 rfl ?_
          refine v_iload_n (pc := 80) (j := 1) C dX2_trace_80 rfl rfl ?_
          obtain ⟨h20, eh20, hf⟩ := oB hf
          refine v_iastore (pc := 81) C eh20 dX2_trace_81 ?_
          refine v_dup (pc := 82) C dX2_trace_82 (va_rfc _) ?_
          refine v_iconst (pc := 83) (v := (1 : Int32)) C dX2_trace_83 rfl ?_
          refine v_iload_n (pc := 84) (j := 2) C dX2_trace_84 rfl rfl ?_
          obtain ⟨h21, eh21, hf⟩ := oB hf
          refine v_iastore (pc := 85) C eh21 dX2_trace_85 ?_
          obtain ⟨b22, eb22, hf⟩ := oB hf
          obtain ⟨rb22, _, kb22⟩ := aIs_eq eb22
          obtain ⟨x23, h24, ex23, hf⟩ := bnd2_eq hf
          refine v_call (pc := 86) (d_V (pc := 86) C (As := [va_rf (some h17.1)]) (rest := []) rb22 kb22 nt_15 q2503 yi_J2_add_java_util_ArrayList yk_J2_add rfl (by decide) (by decide) (Nat.le_trans aw_0 (by decide)) rfl (mJ2_add C.st ex23) dX2_trace_86) ?_
          refine v_pop (pc := 89) C dX2_trace_89 rfl ?_
          refine v_aload_n (pc := 90) (j := 0) C dX2_trace_90 rfl rfl ?_
          obtain ⟨x25, ex25, hf⟩ := oB hf
          refine v_getF (pc := 91) C lk_X2_41 (gR_eq ex25) dX2_trace_91 ?_
          obtain ⟨b26, eb26, hf⟩ := oB hf
          obtain ⟨rb26, _, kb26⟩ := aIs_eq eb26
          obtain ⟨x27, ex27, hf⟩ := oB hf
          refine v_call (pc := 94) (d_V (pc := 94) C (As := []) (rest := []) rb26 kb26 nt_15 q2502 yi_J2_size_java_util_ArrayList yk_J2_size rfl (by decide) (by decide) (Nat.le_trans aw_0 (by decide)) rfl (mJ2_size C.st ex27) dX2_trace_94) ?_
          refine v_iconst (pc := 97) (v := (1 : Int32)) C dX2_trace_97 rfl ?_
          refine v_isub (pc := 98) C dX2_trace_98 ?_
          cases hf
          exact v_ireturn (pc := 99) C X.2.1 X.2.2.1 X.2.2.2.1 rfl dX2_trace_99
        · rw [if_pos (Decidable.of_not_not hc)] at hf
          refine v_aload_n (pc := 52) (j := 0) C dX2_trace_52 rfl rfl ?_
          refine v_iconst (pc := 53) (v := (3 : Int32)) C dX2_trace_53 rfl ?_
          obtain ⟨b29, eb29, hf⟩ := oB hf
          obtain ⟨rb29, _, kb29⟩ := aIs_eq eb29
          obtain ⟨x30, h31, ex30, hf⟩ := bnd2_eq hf
          refine v_call (pc := 54) (d_V (pc := 54) C (As := [.int (3 : Int32)]) (rest := []) rb29 kb29 nt_1 q2498 yi_X2_err_FigureSurveyModel yk_X2_err rfl (by decide) (by decide) (Nat.le_trans aw_0 (by decide)) rfl (mX2_err C.st ex30) dX2_trace_54) ?_
          cases hf
          exact v_ireturn (pc := 57) C X.2.1 X.2.2.1 X.2.2.2.1 rfl dX2_trace_57
      · rw [if_pos (Decidable.of_not_not hc)] at hf
        exact V.sub [0] rfl (vX2_trace_p34 X hf)
  · rw [if_neg hc] at hf
    refine v_aload_n (pc := 13) (j := 0) C dX2_trace_13 rfl rfl ?_
    refine v_iconst (pc := 14) (v := (1 : Int32)) C dX2_trace_14 rfl ?_
    obtain ⟨b32, eb32, hf⟩ := oB hf
    obtain ⟨rb32, _, kb32⟩ := aIs_eq eb32
    obtain ⟨x33, h34, ex33, hf⟩ := bnd2_eq hf
    refine v_call (pc := 15) (d_V (pc := 15) C (As := [.int (1 : Int32)]) (rest := []) rb32 kb32 nt_1 q2498 yi_X2_err_FigureSurveyModel yk_X2_err rfl (by decide) (by decide) (Nat.le_trans aw_0 (by decide)) rfl (mX2_err C.st ex33) dX2_trace_15) ?_
    cases hf
    exact v_ireturn (pc := 18) C X.2.1 X.2.2.1 X.2.2.2.1 rfl dX2_trace_18
theorem mX2_trace {l : Launch} {D : aD} {h : aH} {a0 : Option Nat} {a1 : Int32} {a2 : Int32} {a3 : Int64} {q : Int32} {g : aH} (hst : l.stackTraces = false) (hf : fX2_trace D h a0 a1 a2 a3 = some (q, g)) : aM l D yX2_trace cX2_trace 5 (some .int) 7 152 [va_rf a0, .int a1, .int a2, .long a3] h (.inr (some (.int q)), g) :=
  aM.ofX [(false, va_rf a0), (false, .int a1), (false, .int a2), (true, .long a3)] rfl (ap_r (ap_c rfl (ap_c rfl (ap_c rfl ap_0)))) (by decide +kernel) hst (al_of (aw_r (aw_i (aw_i (aw_l aw_0)))) (by decide)) fun p e s m args below meth c X => V.sub (lv' := [(0, false, va_rf a0), (1, false, .int a1), (2, false, .int a2), (3, true, .long a3)]) [0, 1, 2, 3] rfl (vX2_trace X hf)
def fX2_noTracing (D : aD) (h : aH) (a0 : Option Nat) (a1 : Int32) : Option (Int32) :=
  (gR h 1 11 a0).bind fun x1 =>
  (aIs h 15 x1).bind fun _ =>
  (fJ2_size D h x1).bind fun x3 =>
  (fX2_in D h a1 (0 : Int32) (x3 - (1 : Int32))).bind fun x6 =>
  if x6 = 0 then
  (some (1 : Int32))
  else
  (some (0 : Int32))
theorem vX2_noTracing {h : aH} {a0 : Option Nat} {a1 : Int32} {q : Int32} (X : aX p l R s m meth c D n0 s0 yX2_noTracing cX2_noTracing 1 22 2 (some .boolean) h0) (hf : fX2_noTracing D h a0 a1 = some q) : V p l e R s m args below meth c D n0 s0 (aEnd D below args s h0 (.inr (some (.int q)), h)) h 0 [(0, false, va_rf a0), (1, false, .int a1)] [] := by
  have C := X.1
  unfold fX2_noTracing at hf
  refine v_iload_n (pc := 0) (j := 1) C dX2_noTracing_0 rfl rfl ?_
  refine v_iconst (pc := 1) (v := (0 : Int32)) C dX2_noTracing_1 rfl ?_
  refine v_aload_n (pc := 2) (j := 0) C dX2_noTracing_2 rfl rfl ?_
  obtain ⟨x1, ex1, hf⟩ := oB hf
  refine v_getF (pc := 3) C lk_X2_41 (gR_eq ex1) dX2_noTracing_3 ?_
  obtain ⟨b2, eb2, hf⟩ := oB hf
  obtain ⟨rb2, _, kb2⟩ := aIs_eq eb2
  obtain ⟨x3, ex3, hf⟩ := oB hf
  refine v_call (pc := 6) (d_V (pc := 6) C (As := []) (rest := [.int (0 : Int32), .int a1]) rb2 kb2 nt_15 q2502 yi_J2_size_java_util_ArrayList yk_J2_size rfl (by decide) (by decide) (Nat.le_trans (aw_i (aw_i aw_0)) (by decide)) rfl (mJ2_size C.st ex3) dX2_noTracing_6) ?_
  refine v_iconst (pc := 9) (v := (1 : Int32)) C dX2_noTracing_9 rfl ?_
  refine v_isub (pc := 10) C dX2_noTracing_10 ?_
  obtain ⟨x6, ex6, hf⟩ := oB hf
  refine v_call (pc := 11) (d_S (pc := 11) C (As := [.int a1, .int (0 : Int32), .int (x3 - (1 : Int32))]) (rest := []) q2495 q2496 yk_X2_in rfl (by decide) (by decide) (Nat.le_trans aw_0 (by decide)) rfl (mX2_in C.st ex6) dX2_noTracing_11) ?_
  refine v_if_ne (pc := 14) (tgt := 21) C dX2_noTracing_14 rfl (fun hc => ?_) (fun hc => ?_)
  · rw [if_neg hc] at hf
    refine v_iconst (pc := 21) (v := (0 : Int32)) C dX2_noTracing_21 rfl ?_
    cases hf
    exact v_zreturn (pc := 22) C X.2.1 X.2.2.1 X.2.2.2.1 (by decide) rfl dX2_noTracing_22
  · rw [if_pos (Decidable.of_not_not hc)] at hf
    refine v_iconst (pc := 17) (v := (1 : Int32)) C dX2_noTracing_17 rfl ?_
    refine v_goto (pc := 18) (tgt := 22) C dX2_noTracing_18 rfl ?_
    cases hf
    exact v_zreturn (pc := 22) C X.2.1 X.2.2.1 X.2.2.2.1 (by decide) rfl dX2_noTracing_22
theorem mX2_noTracing {l : Launch} {D : aD} {h : aH} {a0 : Option Nat} {a1 : Int32} {q : Int32} (hst : l.stackTraces = false) (hf : fX2_noTracing D h a0 a1 = some q) : aM l D yX2_noTracing cX2_noTracing 2 (some .boolean) 1 22 [va_rf a0, .int a1] h (.inr (some (.int q)), h) :=
  aM.ofX [(false, va_rf a0), (false, .int a1)] rfl (ap_r (ap_c rfl ap_0)) (by decide +kernel) hst (al_of (aw_r (aw_i aw_0)) (by decide)) fun p e s m args below meth c X => V.sub (lv' := [(0, false, va_rf a0), (1, false, .int a1)]) [0, 1] rfl (vX2_noTracing X hf)
def fX2_shifted_p79 (D : aD) (h : aH) (K6 : Int64 → Int32 → Int32 → Int64 → Int32 → Option (Int64)) (a0 : Int64) (a2 : Int32) (a3 : Int32) (a4 : Int64) (a6 : Int32) : Option (Int64) :=
  K6 a0 a2 a3 a4 (a6 + 1)
theorem vX2_shifted_p79 {h : aH} {K6 : Int64 → Int32 → Int32 → Int64 → Int32 → Option (Int64)} {a0 : Int64} {a2 : Int32} {a3 : Int32} {a4 : Int64} {a6 : Int32} {q : Int64} (X : aX p l R s m meth c D n0 s0 yX2_shifted cX2_shifted 1 22 9 (some .long) h0) (k6 : ∀ (a0 : Int64) (a2 : Int32) (a3 : Int32) (a4 : Int64) (a6 : Int32) (q : Int64), K6 a0 a2 a3 a4 a6 = some q → V p l e R s m args below meth c D n0 s0 (aEnd D below args s h0 (.inr (some (.long q)), h)) h 6 [(0, true, .long a0), (2, false, .int a2), (3, false, .int a3), (4, true, .long a4), (6, false, .int a6)] []) (hf : fX2_shifted_p79 D h K6 a0 a2 a3 a4 a6 = some q) : V p l e R s m args below meth c D n0 s0 (aEnd D below args s h0 (.inr (some (.long q)), h)) h 79 [(0, true, .long a0), (2, false, .int a2), (3, false, .int a3), (4, true, .long a4), (6, false, .int a6)] [] := by
  have C := X.1
  unfold fX2_shifted_p79 at hf
  refine v_iinc (pc := 79) (j := 4) (v := (a6 + 1)) (lv' := [(6, false, .int (a6 + 1)), (0, true, .long a0), (2, false, .int a2), (3, false, .int a3), (4, true, .long a4)]) C dX2_shifted_79 rfl rfl (by decide) rfl ?_
  refine v_goto (pc := 82) (tgt := 6) C dX2_shifted_82 rfl ?_
  exact V.sub [1, 2, 3, 4, 0] rfl (k6 _ _ _ _ _ _ hf)
def fX2_shifted_p85 (D : aD) (h : aH) (a4 : Int64) : Option (Int64) :=
  some a4
theorem vX2_shifted_p85 {h : aH} {a4 : Int64} {q : Int64} (X : aX p l R s m meth c D n0 s0 yX2_shifted cX2_shifted 1 22 9 (some .long) h0) (hf : fX2_shifted_p85 D h a4 = some q) : V p l e R s m args below meth c D n0 s0 (aEnd D below args s h0 (.inr (some (.long q)), h)) h 85 [(4, true, .long a4)] [] := by
  have C := X.1
  unfold fX2_shifted_p85 at hf
  refine v_lload (pc := 85) (j := 0) C dX2_shifted_85 rfl ?_
  cases hf
  exact v_lreturn (pc := 87) C X.2.1 X.2.2.1 X.2.2.2.1 rfl dX2_shifted_87
def fX2_shifted_p6 (D : aD) (h : aH) : Nat → Int64 → Int32 → Int32 → Int64 → Int32 → Option (Int64)
  | 0, _, _, _, _, _ => none
  | n + 1, a0, a2, a3, a4, a6 =>
  if (64 : Int32) ≤ a6 then
  (fX2_shifted_p85 D h a4)
  else
  ((some (((a6 - a6 / (8 : Int32) * (8 : Int32)) + a2))).bind fun x1 =>
  (some (((a6 / (8 : Int32)) + a3))).bind fun x2 =>
  if (lg_cmp ((a0.toUInt64 >>> (a6.toInt64.toUInt64 &&& Int64.toUInt64 63)).toInt64 &&& (1 : Int64)) (1 : Int64)) = 0 then
  ((fX2_in D h x1 (0 : Int32) (7 : Int32)).bind fun x4 =>
  if x4 = 0 then
  (fX2_shifted_p79 D h (fX2_shifted_p6 D h n) a0 a2 a3 a4 a6)
  else
  ((fX2_in D h x2 (0 : Int32) (7 : Int32)).bind fun x7 =>
  if x7 = 0 then
  (fX2_shifted_p79 D h (fX2_shifted_p6 D h n) a0 a2 a3 a4 a6)
  else
  ((some ((a4 ||| ((1 : Int64) <<< ((((8 : Int32) * x2) + x1).toInt64 &&& 63))))).bind fun x9 =>
  fX2_shifted_p79 D h (fX2_shifted_p6 D h n) a0 a2 a3 x9 a6)))
  else
  (fX2_shifted_p79 D h (fX2_shifted_p6 D h n) a0 a2 a3 a4 a6))
theorem vX2_shifted_p6 {h : aH} (X : aX p l R s m meth c D n0 s0 yX2_shifted cX2_shifted 1 22 9 (some .long) h0) : ∀ (n : Nat) (a0 : Int64) (a2 : Int32) (a3 : Int32) (a4 : Int64) (a6 : Int32) (q : Int64), fX2_shifted_p6 D h n a0 a2 a3 a4 a6 = some q → V p l e R s m args below meth c D n0 s0 (aEnd D below args s h0 (.inr (some (.long q)), h)) h 6 [(0, true, .long a0), (2, false, .int a2), (3, false, .int a3), (4, true, .long a4), (6, false, .int a6)] [] := by
  have C := X.1
  intro n
  induction n with
  | zero =>
    intro _ _ _ _ _ _ hf
    rw [fX2_shifted_p6] at hf
    cases hf
  | succ n ih =>
    intro a0 a2 a3 a4 a6 q hf
    rw [fX2_shifted_p6] at hf
    refine v_iload (pc := 6) (j := 4) C dX2_shifted_6 rfl ?_
    refine v_bipush (pc := 8) (v := (64 : Int32)) C dX2_shifted_8 rfl ?_
    refine v_icmp_ge (pc := 10) (tgt := 85) C dX2_shifted_10 rfl (fun hc => ?_) (fun hc => ?_)
    · rw [if_pos hc] at hf
      exact V.sub [3] rfl (vX2_shifted_p85 X hf)
    · rw [if_neg hc] at hf
      refine v_iload (pc := 13) (j := 4) C dX2_shifted_13 rfl ?_
      refine v_bipush (pc := 15) (v := (8 : Int32)) C dX2_shifted_15 rfl ?_
      refine v_irem (pc := 17) C dX2_shifted_17 (by decide) ?_
      refine v_iload_n (pc := 18) (j := 1) C dX2_shifted_18 rfl rfl ?_
      refine v_iadd (pc := 19) C dX2_shifted_19 ?_
      obtain ⟨x1, ex1, hf⟩ := oB hf
      refine vst (Option.some.inj ex1) (fun z => .int z :: []) ?_
      refine v_istore (pc := 20) (lv' := [(7, false, .int x1), (0, true, .long a0), (2, false, .int a2), (3, false, .int a3), (4, true, .long a4), (6, false, .int a6)]) C dX2_shifted_20 (by decide) rfl ?_
      refine v_iload (pc := 22) (j := 5) C dX2_shifted_22 rfl ?_
      refine v_bipush (pc := 24) (v := (8 : Int32)) C dX2_shifted_24 rfl ?_
      refine v_idiv (pc := 26) C dX2_shifted_26 (by decide) ?_
      refine v_iload_n (pc := 27) (j := 3) C dX2_shifted_27 rfl rfl ?_
      refine v_iadd (pc := 28) C dX2_shifted_28 ?_
      obtain ⟨x2, ex2, hf⟩ := oB hf
      refine vst (Option.some.inj ex2) (fun z => .int z :: []) ?_
      refine v_istore (pc := 29) (lv' := [(8, false, .int x2), (7, false, .int x1), (0, true, .long a0), (2, false, .int a2), (3, false, .int a3), (4, true, .long a4), (6, false, .int a6)]) C dX2_shifted_29 (by decide) rfl ?_
      refine v_lload_n (pc := 31) (j := 2) C dX2_shifted_31 rfl rfl ?_
      refine v_iload (pc := 32) (j := 6) C dX2_shifted_32 rfl ?_
      refine v_lushr (pc := 34) C dX2_shifted_34 ?_
      refine v_lconst (pc := 35) (v := (1 : Int64)) C dX2_shifted_35 rfl ?_
      refine v_land (pc := 36) C dX2_shifted_36 ?_
      refine v_lconst (pc := 37) (v := (1 : Int64)) C dX2_shifted_37 rfl ?_
      refine v_lcmp (pc := 38) C dX2_shifted_38 ?_
      refine v_if_ne (pc := 39) (tgt := 79) C dX2_shifted_39 rfl (fun hc => ?_) (fun hc => ?_)
      · rw [if_neg hc] at hf
        exact V.sub [2, 3, 4, 5, 6] rfl (vX2_shifted_p79 X ih hf)
      · rw [if_pos (Decidable.of_not_not hc)] at hf
        refine v_iload (pc := 42) (j := 1) C dX2_shifted_42 rfl ?_
        refine v_iconst (pc := 44) (v := (0 : Int32)) C dX2_shifted_44 rfl ?_
        refine v_bipush (pc := 45) (v := (7 : Int32)) C dX2_shifted_45 rfl ?_
        obtain ⟨x4, ex4, hf⟩ := oB hf
        refine v_call (pc := 47) (d_S (pc := 47) C (As := [.int x1, .int (0 : Int32), .int (7 : Int32)]) (rest := []) q2495 q2496 yk_X2_in rfl (by decide) (by decide) (Nat.le_trans aw_0 (by decide)) rfl (mX2_in C.st ex4) dX2_shifted_47) ?_
        refine v_if_eq (pc := 50) (tgt := 79) C dX2_shifted_50 rfl (fun hc => ?_) (fun hc => ?_)
        · rw [if_pos hc] at hf
          exact V.sub [2, 3, 4, 5, 6] rfl (vX2_shifted_p79 X ih hf)
        · rw [if_neg hc] at hf
          refine v_iload (pc := 53) (j := 0) C dX2_shifted_53 rfl ?_
          refine v_iconst (pc := 55) (v := (0 : Int32)) C dX2_shifted_55 rfl ?_
          refine v_bipush (pc := 56) (v := (7 : Int32)) C dX2_shifted_56 rfl ?_
          obtain ⟨x7, ex7, hf⟩ := oB hf
          refine v_call (pc := 58) (d_S (pc := 58) C (As := [.int x2, .int (0 : Int32), .int (7 : Int32)]) (rest := []) q2495 q2496 yk_X2_in rfl (by decide) (by decide) (Nat.le_trans aw_0 (by decide)) rfl (mX2_in C.st ex7) dX2_shifted_58) ?_
          refine v_if_eq (pc := 61) (tgt := 79) C dX2_shifted_61 rfl (fun hc => ?_) (fun hc => ?_)
          · rw [if_pos hc] at hf
            exact V.sub [2, 3, 4, 5, 6] rfl (vX2_shifted_p79 X ih hf)
          · rw [if_neg hc] at hf
            refine v_lload (pc := 64) (j := 5) C dX2_shifted_64 rfl ?_
            refine v_lconst (pc := 66) (v := (1 : Int64)) C dX2_shifted_66 rfl ?_
            refine v_bipush (pc := 67) (v := (8 : Int32)) C dX2_shifted_67 rfl ?_
            refine v_iload (pc := 69) (j := 0) C dX2_shifted_69 rfl ?_
            refine v_imul (pc := 71) C dX2_shifted_71 ?_
            refine v_iload (pc := 72) (j := 1) C dX2_shifted_72 rfl ?_
            refine v_iadd (pc := 74) C dX2_shifted_74 ?_
            refine v_lshl (pc := 75) C dX2_shifted_75 ?_
            refine v_lor (pc := 76) C dX2_shifted_76 ?_
            obtain ⟨x9, ex9, hf⟩ := oB hf
            refine vst (Option.some.inj ex9) (fun z => .long z :: []) ?_
            refine v_lstore (pc := 77) (lv' := [(4, true, .long x9), (8, false, .int x2), (7, false, .int x1), (0, true, .long a0), (2, false, .int a2), (3, false, .int a3), (6, false, .int a6)]) C dX2_shifted_77 (by decide) rfl ?_
            exact V.sub [3, 4, 5, 0, 6] rfl (vX2_shifted_p79 X ih hf)
def fX2_shifted (D : aD) (h : aH) (a0 : Int64) (a2 : Int32) (a3 : Int32) : Option (Int64) :=
  fX2_shifted_p6 D h FU a0 a2 a3 (0 : Int64) (0 : Int32)
theorem vX2_shifted {h : aH} {a0 : Int64} {a2 : Int32} {a3 : Int32} {q : Int64} (X : aX p l R s m meth c D n0 s0 yX2_shifted cX2_shifted 1 22 9 (some .long) h0) (hf : fX2_shifted D h a0 a2 a3 = some q) : V p l e R s m args below meth c D n0 s0 (aEnd D below args s h0 (.inr (some (.long q)), h)) h 0 [(0, true, .long a0), (2, false, .int a2), (3, false, .int a3)] [] := by
  have C := X.1
  unfold fX2_shifted at hf
  refine v_lconst (pc := 0) (v := (0 : Int64)) C dX2_shifted_0 rfl ?_
  refine v_lstore (pc := 1) (lv' := [(4, true, .long (0 : Int64)), (0, true, .long a0), (2, false, .int a2), (3, false, .int a3)]) C dX2_shifted_1 (by decide) rfl ?_
  refine v_iconst (pc := 3) (v := (0 : Int32)) C dX2_shifted_3 rfl ?_
  refine v_istore (pc := 4) (lv' := [(6, false, .int (0 : Int32)), (4, true, .long (0 : Int64)), (0, true, .long a0), (2, false, .int a2), (3, false, .int a3)]) C dX2_shifted_4 (by decide) rfl ?_
  exact V.sub [2, 3, 4, 1, 0] rfl (vX2_shifted_p6 X _ _ _ _ _ _ _ hf)
theorem mX2_shifted {l : Launch} {D : aD} {h : aH} {a0 : Int64} {a2 : Int32} {a3 : Int32} {q : Int64} (hst : l.stackTraces = false) (hf : fX2_shifted D h a0 a2 a3 = some q) : aM l D yX2_shifted cX2_shifted 9 (some .long) 1 22 [.long a0, .int a2, .int a3] h (.inr (some (.long q)), h) :=
  aM.ofX [(true, .long a0), (false, .int a2), (false, .int a3)] rfl (ap_c rfl (ap_c rfl (ap_c rfl ap_0))) (by decide +kernel) hst (al_of (aw_l (aw_i (aw_i aw_0))) (by decide)) fun p e s m args below meth c X => V.sub (lv' := [(0, true, .long a0), (2, false, .int a2), (3, false, .int a3)]) [0, 1, 2] rfl (vX2_shifted X hf)
def fX2_aligned_p121 (D : aD) (K31 : aH → (Option Nat) → Int32 → Int64 → Int32 → Int32 → Int32 → Int32 → Option (Option Nat × aH)) (K41 : aH → (Option Nat) → Int32 → Int64 → Int32 → Int32 → Int32 → Int32 → Int32 → Option (Option Nat × aH)) (h : aH) (a0 : Option Nat) (a1 : Int32) (a2 : Int64) (a4 : Int32) (a5 : Int32) (a6 : Int32) (a7 : Int32) (a8 : Int32) : Option (Option Nat × aH) :=
  K41 h a0 a1 a2 a4 a5 a6 a7 (a8 + 1)
theorem vX2_aligned_p121 {h : aH} {K31 : aH → (Option Nat) → Int32 → Int64 → Int32 → Int32 → Int32 → Int32 → Option (Option Nat × aH)} {K41 : aH → (Option Nat) → Int32 → Int64 → Int32 → Int32 → Int32 → Int32 → Int32 → Option (Option Nat × aH)} {a0 : Option Nat} {a1 : Int32} {a2 : Int64} {a4 : Int32} {a5 : Int32} {a6 : Int32} {a7 : Int32} {a8 : Int32} {q : Option Nat} {g : aH} (X : aX p l R s m meth c D n0 s0 yX2_aligned cX2_aligned 4 88 10 (some (.array .int)) h0) (k31 : ∀ (h : aH) (a0 : Option Nat) (a1 : Int32) (a2 : Int64) (a4 : Int32) (a5 : Int32) (a6 : Int32) (a7 : Int32) (q : Option Nat) (g : aH), K31 h a0 a1 a2 a4 a5 a6 a7 = some (q, g) → V p l e R s m args below meth c D n0 s0 (aEnd D below args s h0 (.inr (some (va_rf q)), g)) h 31 [(0, false, va_rf a0), (1, false, .int a1), (2, true, .long a2), (4, false, .int a4), (5, false, .int a5), (6, false, .int a6), (7, false, .int a7)] []) (k41 : ∀ (h : aH) (a0 : Option Nat) (a1 : Int32) (a2 : Int64) (a4 : Int32) (a5 : Int32) (a6 : Int32) (a7 : Int32) (a8 : Int32) (q : Option Nat) (g : aH), K41 h a0 a1 a2 a4 a5 a6 a7 a8 = some (q, g) → V p l e R s m args below meth c D n0 s0 (aEnd D below args s h0 (.inr (some (va_rf q)), g)) h 41 [(0, false, va_rf a0), (1, false, .int a1), (2, true, .long a2), (4, false, .int a4), (5, false, .int a5), (6, false, .int a6), (7, false, .int a7), (8, false, .int a8)] []) (hf : fX2_aligned_p121 D K31 K41 h a0 a1 a2 a4 a5 a6 a7 a8 = some (q, g)) : V p l e R s m args below meth c D n0 s0 (aEnd D below args s h0 (.inr (some (va_rf q)), g)) h 121 [(0, false, va_rf a0), (1, false, .int a1), (2, true, .long a2), (4, false, .int a4), (5, false, .int a5), (6, false, .int a6), (7, false, .int a7), (8, false, .int a8)] [] := by
  have C := X.1
  unfold fX2_aligned_p121 at hf
  refine v_iinc (pc := 121) (j := 7) (v := (a8 + 1)) (lv' := [(8, false, .int (a8 + 1)), (0, false, va_rf a0), (1, false, .int a1), (2, true, .long a2), (4, false, .int a4), (5, false, .int a5), (6, false, .int a6), (7, false, .int a7)]) C dX2_aligned_121 rfl rfl (by decide) rfl ?_
  refine v_goto (pc := 124) (tgt := 41) C dX2_aligned_124 rfl ?_
  exact V.sub [1, 2, 3, 4, 5, 6, 7, 0] rfl (k41 _ _ _ _ _ _ _ _ _ _ _ hf)
def fX2_aligned_p109 (D : aD) (K31 : aH → (Option Nat) → Int32 → Int64 → Int32 → Int32 → Int32 → Int32 → Option (Option Nat × aH)) (K41 : aH → (Option Nat) → Int32 → Int64 → Int32 → Int32 → Int32 → Int32 → Int32 → Option (Option Nat × aH)) (h : aH) (a0 : Option Nat) (a1 : Int32) (a2 : Int64) (a7 : Int32) (a8 : Int32) (a9 : Int32) : Option (Option Nat × aH) :=
  fX2_aligned_p121 D K31 K41 h a0 a1 a2 a8 a7 a9 a7 a8
theorem vX2_aligned_p109 {h : aH} {K31 : aH → (Option Nat) → Int32 → Int64 → Int32 → Int32 → Int32 → Int32 → Option (Option Nat × aH)} {K41 : aH → (Option Nat) → Int32 → Int64 → Int32 → Int32 → Int32 → Int32 → Int32 → Option (Option Nat × aH)} {a0 : Option Nat} {a1 : Int32} {a2 : Int64} {a7 : Int32} {a8 : Int32} {a9 : Int32} {q : Option Nat} {g : aH} (X : aX p l R s m meth c D n0 s0 yX2_aligned cX2_aligned 4 88 10 (some (.array .int)) h0) (k31 : ∀ (h : aH) (a0 : Option Nat) (a1 : Int32) (a2 : Int64) (a4 : Int32) (a5 : Int32) (a6 : Int32) (a7 : Int32) (q : Option Nat) (g : aH), K31 h a0 a1 a2 a4 a5 a6 a7 = some (q, g) → V p l e R s m args below meth c D n0 s0 (aEnd D below args s h0 (.inr (some (va_rf q)), g)) h 31 [(0, false, va_rf a0), (1, false, .int a1), (2, true, .long a2), (4, false, .int a4), (5, false, .int a5), (6, false, .int a6), (7, false, .int a7)] []) (k41 : ∀ (h : aH) (a0 : Option Nat) (a1 : Int32) (a2 : Int64) (a4 : Int32) (a5 : Int32) (a6 : Int32) (a7 : Int32) (a8 : Int32) (q : Option Nat) (g : aH), K41 h a0 a1 a2 a4 a5 a6 a7 a8 = some (q, g) → V p l e R s m args below meth c D n0 s0 (aEnd D below args s h0 (.inr (some (va_rf q)), g)) h 41 [(0, false, va_rf a0), (1, false, .int a1), (2, true, .long a2), (4, false, .int a4), (5, false, .int a5), (6, false, .int a6), (7, false, .int a7), (8, false, .int a8)] []) (hf : fX2_aligned_p109 D K31 K41 h a0 a1 a2 a7 a8 a9 = some (q, g)) : V p l e R s m args below meth c D n0 s0 (aEnd D below args s h0 (.inr (some (va_rf q)), g)) h 109 [(0, false, va_rf a0), (1, false, .int a1), (2, true, .long a2), (7, false, .int a7), (8, false, .int a8), (9, false, .int a9)] [] := by
  have C := X.1
  unfold fX2_aligned_p109 at hf
  refine v_iload (pc := 109) (j := 4) C dX2_aligned_109 rfl ?_
  refine v_istore (pc := 111) (lv' := [(4, false, .int a8), (0, false, va_rf a0), (1, false, .int a1), (2, true, .long a2), (7, false, .int a7), (8, false, .int a8), (9, false, .int a9)]) C dX2_aligned_111 (by decide) rfl ?_
  refine v_iload (pc := 113) (j := 4) C dX2_aligned_113 rfl ?_
  refine v_istore (pc := 115) (lv' := [(5, false, .int a7), (4, false, .int a8), (0, false, va_rf a0), (1, false, .int a1), (2, true, .long a2), (7, false, .int a7), (8, false, .int a8), (9, false, .int a9)]) C dX2_aligned_115 (by decide) rfl ?_
  refine v_iload (pc := 117) (j := 7) C dX2_aligned_117 rfl ?_
  refine v_istore (pc := 119) (lv' := [(6, false, .int a9), (5, false, .int a7), (4, false, .int a8), (0, false, va_rf a0), (1, false, .int a1), (2, true, .long a2), (7, false, .int a7), (8, false, .int a8), (9, false, .int a9)]) C dX2_aligned_119 (by decide) rfl ?_
  exact V.sub [3, 4, 5, 2, 1, 0, 6, 7] rfl (vX2_aligned_p121 X k31 k41 hf)
def fX2_aligned_p127 (D : aD) (K31 : aH → (Option Nat) → Int32 → Int64 → Int32 → Int32 → Int32 → Int32 → Option (Option Nat × aH)) (h : aH) (a0 : Option Nat) (a1 : Int32) (a2 : Int64) (a4 : Int32) (a5 : Int32) (a6 : Int32) (a7 : Int32) : Option (Option Nat × aH) :=
  K31 h a0 a1 a2 a4 a5 a6 (a7 + 1)
theorem vX2_aligned_p127 {h : aH} {K31 : aH → (Option Nat) → Int32 → Int64 → Int32 → Int32 → Int32 → Int32 → Option (Option Nat × aH)} {a0 : Option Nat} {a1 : Int32} {a2 : Int64} {a4 : Int32} {a5 : Int32} {a6 : Int32} {a7 : Int32} {q : Option Nat} {g : aH} (X : aX p l R s m meth c D n0 s0 yX2_aligned cX2_aligned 4 88 10 (some (.array .int)) h0) (k31 : ∀ (h : aH) (a0 : Option Nat) (a1 : Int32) (a2 : Int64) (a4 : Int32) (a5 : Int32) (a6 : Int32) (a7 : Int32) (q : Option Nat) (g : aH), K31 h a0 a1 a2 a4 a5 a6 a7 = some (q, g) → V p l e R s m args below meth c D n0 s0 (aEnd D below args s h0 (.inr (some (va_rf q)), g)) h 31 [(0, false, va_rf a0), (1, false, .int a1), (2, true, .long a2), (4, false, .int a4), (5, false, .int a5), (6, false, .int a6), (7, false, .int a7)] []) (hf : fX2_aligned_p127 D K31 h a0 a1 a2 a4 a5 a6 a7 = some (q, g)) : V p l e R s m args below meth c D n0 s0 (aEnd D below args s h0 (.inr (some (va_rf q)), g)) h 127 [(0, false, va_rf a0), (1, false, .int a1), (2, true, .long a2), (4, false, .int a4), (5, false, .int a5), (6, false, .int a6), (7, false, .int a7)] [] := by
  have C := X.1
  unfold fX2_aligned_p127 at hf
  refine v_iinc (pc := 127) (j := 6) (v := (a7 + 1)) (lv' := [(7, false, .int (a7 + 1)), (0, false, va_rf a0), (1, false, .int a1), (2, true, .long a2), (4, false, .int a4), (5, false, .int a5), (6, false, .int a6)]) C dX2_aligned_127 rfl rfl (by decide) rfl ?_
  refine v_goto (pc := 130) (tgt := 31) C dX2_aligned_130 rfl ?_
  exact V.sub [1, 2, 3, 4, 5, 6, 0] rfl (k31 _ _ _ _ _ _ _ _ _ _ hf)
def fX2_aligned_p41 (D : aD) (K31 : aH → (Option Nat) → Int32 → Int64 → Int32 → Int32 → Int32 → Int32 → Option (Option Nat × aH)) : Nat → aH → (Option Nat) → Int32 → Int64 → Int32 → Int32 → Int32 → Int32 → Int32 → Option (Option Nat × aH)
  | 0, _, _, _, _, _, _, _, _, _ => none
  | n + 1, h, a0, a1, a2, a4, a5, a6, a7, a8 =>
  if (2 : Int32) < a8 then
  (fX2_aligned_p127 D K31 h a0 a1 a2 a4 a5 a6 a7)
  else
  ((gR h 1 12 a0).bind fun x1 =>
  (eL h x1 a1).bind fun x2 =>
  (fX2_shifted D h x2 a8 a7).bind fun x4 =>
  (fJ21_bitCount D h (x4 &&& a2)).bind fun x7 =>
  if x7 < a6 then
  (fX2_aligned_p121 D K31 (fX2_aligned_p41 D K31 n) h a0 a1 a2 a4 a5 a6 a7 a8)
  else
  (if x7 = a6 then
  ((fJ11_abs D h a8).bind fun x10 =>
  (fJ11_abs D h a7).bind fun x13 =>
  (fJ11_abs D h a4).bind fun x16 =>
  (fJ11_abs D h a5).bind fun x19 =>
  if (x10 + x13) < (x16 + x19) then
  (fX2_aligned_p109 D K31 (fX2_aligned_p41 D K31 n) h a0 a1 a2 a7 a8 x7)
  else
  (fX2_aligned_p121 D K31 (fX2_aligned_p41 D K31 n) h a0 a1 a2 a4 a5 a6 a7 a8))
  else
  (fX2_aligned_p109 D K31 (fX2_aligned_p41 D K31 n) h a0 a1 a2 a7 a8 x7)))
theorem vX2_aligned_p41 {K31 : aH → (Option Nat) → Int32 → Int64 → Int32 → Int32 → Int32 → Int32 → Option (Option Nat × aH)} (X : aX p l R s m meth c D n0 s0 yX2_aligned cX2_aligned 4 88 10 (some (.array .int)) h0) (k31 : ∀ (h : aH) (a0 : Option Nat) (a1 : Int32) (a2 : Int64) (a4 : Int32) (a5 : Int32) (a6 : Int32) (a7 : Int32) (q : Option Nat) (g : aH), K31 h a0 a1 a2 a4 a5 a6 a7 = some (q, g) → V p l e R s m args below meth c D n0 s0 (aEnd D below args s h0 (.inr (some (va_rf q)), g)) h 31 [(0, false, va_rf a0), (1, false, .int a1), (2, true, .long a2), (4, false, .int a4), (5, false, .int a5), (6, false, .int a6), (7, false, .int a7)] []) : ∀ (n : Nat) (h : aH) (a0 : Option Nat) (a1 : Int32) (a2 : Int64) (a4 : Int32) (a5 : Int32) (a6 : Int32) (a7 : Int32) (a8 : Int32) (q : Option Nat) (g : aH), fX2_aligned_p41 D K31 n h a0 a1 a2 a4 a5 a6 a7 a8 = some (q, g) → V p l e R s m args below meth c D n0 s0 (aEnd D below args s h0 (.inr (some (va_rf q)), g)) h 41 [(0, false, va_rf a0), (1, false, .int a1), (2, true, .long a2), (4, false, .int a4), (5, false, .int a5), (6, false, .int a6), (7, false, .int a7), (8, false, .int a8)] [] := by
  have C := X.1
  intro n
  induction n with
  | zero =>
    intro _ _ _ _ _ _ _ _ _ _ _ hf
    rw [fX2_aligned_p41] at hf
    cases hf
  | succ n ih =>
    intro h a0 a1 a2 a4 a5 a6 a7 a8 q g hf
    rw [fX2_aligned_p41] at hf
    refine v_iload (pc := 41) (j := 7) C dX2_aligned_41 rfl ?_
    refine v_iconst (pc := 43) (v := (2 : Int32)) C dX2_aligned_43 rfl ?_
    refine v_icmp_gt (pc := 44) (tgt := 127) C dX2_aligned_44 rfl (fun hc => ?_) (fun hc => ?_)
    · rw [if_pos hc] at hf
      exact V.sub [0, 1, 2, 3, 4, 5, 6] rfl (vX2_aligned_p127 X k31 hf)
    · rw [if_neg hc] at hf
      refine v_aload_n (pc := 47) (j := 0) C dX2_aligned_47 rfl rfl ?_
      obtain ⟨x1, ex1, hf⟩ := oB hf
      refine v_getF (pc := 48) C lk_X2_44 (gR_eq ex1) dX2_aligned_48 ?_
      refine v_iload_n (pc := 51) (j := 1) C dX2_aligned_51 rfl rfl ?_
      obtain ⟨x2, ex2, hf⟩ := oB hf
      refine v_laload (pc := 52) C ex2 dX2_aligned_52 ?_
      refine v_iload (pc := 53) (j := 7) C dX2_aligned_53 rfl ?_
      refine v_iload (pc := 55) (j := 6) C dX2_aligned_55 rfl ?_
      obtain ⟨x4, ex4, hf⟩ := oB hf
      refine v_call (pc := 57) (d_S (pc := 57) C (As := [.long x2, .int a8, .int a7]) (rest := []) q2610 q2611 yk_X2_shifted rfl (by decide) (by decide) (Nat.le_trans aw_0 (by decide)) rfl (mX2_shifted C.st ex4) dX2_aligned_57) ?_
      refine v_lload_n (pc := 60) (j := 2) C dX2_aligned_60 rfl rfl ?_
      refine v_land (pc := 61) C dX2_aligned_61 ?_
      obtain ⟨x7, ex7, hf⟩ := oB hf
      refine v_call (pc := 62) (d_S (pc := 62) C (As := [.long (x4 &&& a2)]) (rest := []) q2581 q558 yk_J21_bitCount rfl (by decide) (by decide) (Nat.le_trans aw_0 (by decide)) rfl (mJ21_bitCount C.st ex7) dX2_aligned_62) ?_
      refine v_istore (pc := 65) (lv' := [(9, false, .int x7), (0, false, va_rf a0), (1, false, .int a1), (2, true, .long a2), (4, false, .int a4), (5, false, .int a5), (6, false, .int a6), (7, false, .int a7), (8, false, .int a8)]) C dX2_aligned_65 (by decide) rfl ?_
      refine v_iload (pc := 67) (j := 0) C dX2_aligned_67 rfl ?_
      refine v_iload (pc := 69) (j := 6) C dX2_aligned_69 rfl ?_
      refine v_icmp_lt (pc := 71) (tgt := 121) C dX2_aligned_71 rfl (fun hc => ?_) (fun hc => ?_)
      · rw [if_pos hc] at hf
        exact V.sub [1, 2, 3, 4, 5, 6, 7, 8] rfl (vX2_aligned_p121 X k31 ih hf)
      · rw [if_neg hc] at hf
        refine v_iload (pc := 74) (j := 0) C dX2_aligned_74 rfl ?_
        refine v_iload (pc := 76) (j := 6) C dX2_aligned_76 rfl ?_
        refine v_icmp_ne (pc := 78) (tgt := 109) C dX2_aligned_78 rfl (fun hc => ?_) (fun hc => ?_)
        · rw [if_neg hc] at hf
          exact V.sub [1, 2, 3, 7, 8, 0] rfl (vX2_aligned_p109 X k31 ih hf)
        · rw [if_pos (Decidable.of_not_not hc)] at hf
          refine v_iload (pc := 81) (j := 8) C dX2_aligned_81 rfl ?_
          obtain ⟨x10, ex10, hf⟩ := oB hf
          refine v_call (pc := 83) (d_S (pc := 83) C (As := [.int a8]) (rest := []) q2535 q592 yk_J11_abs rfl (by decide) (by decide) (Nat.le_trans aw_0 (by decide)) rfl (mJ11_abs C.st ex10) dX2_aligned_83) ?_
          refine v_iload (pc := 86) (j := 7) C dX2_aligned_86 rfl ?_
          obtain ⟨x13, ex13, hf⟩ := oB hf
          refine v_call (pc := 88) (d_S (pc := 88) C (As := [.int a7]) (rest := [.int x10]) q2535 q592 yk_J11_abs rfl (by decide) (by decide) (Nat.le_trans (aw_i aw_0) (by decide)) rfl (mJ11_abs C.st ex13) dX2_aligned_88) ?_
          refine v_iadd (pc := 91) C dX2_aligned_91 ?_
          refine v_iload (pc := 92) (j := 4) C dX2_aligned_92 rfl ?_
          obtain ⟨x16, ex16, hf⟩ := oB hf
          refine v_call (pc := 94) (d_S (pc := 94) C (As := [.int a4]) (rest := [.int (x10 + x13)]) q2535 q592 yk_J11_abs rfl (by decide) (by decide) (Nat.le_trans (aw_i aw_0) (by decide)) rfl (mJ11_abs C.st ex16) dX2_aligned_94) ?_
          refine v_iload (pc := 97) (j := 5) C dX2_aligned_97 rfl ?_
          obtain ⟨x19, ex19, hf⟩ := oB hf
          refine v_call (pc := 99) (d_S (pc := 99) C (As := [.int a5]) (rest := [.int x16, .int (x10 + x13)]) q2535 q592 yk_J11_abs rfl (by decide) (by decide) (Nat.le_trans (aw_i (aw_i aw_0)) (by decide)) rfl (mJ11_abs C.st ex19) dX2_aligned_99) ?_
          refine v_iadd (pc := 102) C dX2_aligned_102 ?_
          refine v_icmp_lt (pc := 103) (tgt := 109) C dX2_aligned_103 rfl (fun hc => ?_) (fun hc => ?_)
          · rw [if_pos hc] at hf
            exact V.sub [1, 2, 3, 7, 8, 0] rfl (vX2_aligned_p109 X k31 ih hf)
          · rw [if_neg hc] at hf
            refine v_goto (pc := 106) (tgt := 121) C dX2_aligned_106 rfl ?_
            exact V.sub [1, 2, 3, 4, 5, 6, 7, 8] rfl (vX2_aligned_p121 X k31 ih hf)
def fX2_aligned_p133 (D : aD) (h : aH) (a4 : Int32) (a5 : Int32) (a6 : Int32) : Option (Option Nat × aH) :=
  (aMkA D h 100 (3 : Int32) (.int 0)).bind fun h1 =>
  (sF D h1 100 (some h.1) (0 : Int32) (.int a4)).bind fun h2 =>
  (sF D h2 100 (some h.1) (1 : Int32) (.int a5)).bind fun h3 =>
  (sF D h3 100 (some h.1) (2 : Int32) (.int a6)).bind fun h4 =>
  some ((some h.1), h4)
theorem vX2_aligned_p133 {h : aH} {a4 : Int32} {a5 : Int32} {a6 : Int32} {q : Option Nat} {g : aH} (X : aX p l R s m meth c D n0 s0 yX2_aligned cX2_aligned 4 88 10 (some (.array .int)) h0) (hf : fX2_aligned_p133 D h a4 a5 a6 = some (q, g)) : V p l e R s m args below meth c D n0 s0 (aEnd D below args s h0 (.inr (some (va_rf q)), g)) h 133 [(4, false, .int a4), (5, false, .int a5), (6, false, .int a6)] [] := by
  have C := X.1
  unfold fX2_aligned_p133 at hf
  refine v_iconst (pc := 133) (v := (3 : Int32)) C dX2_aligned_133 rfl ?_
  obtain ⟨h1, eh1, hf⟩ := oB hf
  refine v_newarray (pc := 134) (t := 100) (v := .int 0) C q169 rfl rfl (by decide) (by decide) rfl eh1 dX2_aligned_134 ?_
  refine v_dup (pc := 136) C dX2_aligned_136 (va_rfc _) ?_
  refine v_iconst (pc := 137) (v := (0 : Int32)) C dX2_aligned_137 rfl ?_
  refine v_iload (pc := 138) (j := 0) C dX2_aligned_138 rfl ?_
  obtain ⟨h2, eh2, hf⟩ := oB hf
  refine v_iastore (pc := 140) C eh2 dX2_aligned_140 ?_
  refine v_dup (pc := 141) C dX2_aligned_141 (va_rfc _) ?_
  refine v_iconst (pc := 142) (v := (1 : Int32)) C dX2_aligned_142 rfl ?_
  refine v_iload (pc := 143) (j := 1) C dX2_aligned_143 rfl ?_
  obtain ⟨h3, eh3, hf⟩ := oB hf
  refine v_iastore (pc := 145) C eh3 dX2_aligned_145 ?_
  refine v_dup (pc := 146) C dX2_aligned_146 (va_rfc _) ?_
  refine v_iconst (pc := 147) (v := (2 : Int32)) C dX2_aligned_147 rfl ?_
  refine v_iload (pc := 148) (j := 2) C dX2_aligned_148 rfl ?_
  obtain ⟨h4, eh4, hf⟩ := oB hf
  refine v_iastore (pc := 150) C eh4 dX2_aligned_150 ?_
  cases hf
  exact v_areturn (pc := 151) C X.2.1 X.2.2.1 X.2.2.2.1 (Or.inr ⟨_, rfl⟩) rfl dX2_aligned_151
def fX2_aligned_p31 (D : aD) : Nat → aH → (Option Nat) → Int32 → Int64 → Int32 → Int32 → Int32 → Int32 → Option (Option Nat × aH)
  | 0, _, _, _, _, _, _, _, _ => none
  | n + 1, h, a0, a1, a2, a4, a5, a6, a7 =>
  if (2 : Int32) < a7 then
  (fX2_aligned_p133 D h a4 a5 a6)
  else
  (fX2_aligned_p41 D (fX2_aligned_p31 D n) FU h a0 a1 a2 a4 a5 a6 a7 (-2 : Int32))
theorem vX2_aligned_p31 (X : aX p l R s m meth c D n0 s0 yX2_aligned cX2_aligned 4 88 10 (some (.array .int)) h0) : ∀ (n : Nat) (h : aH) (a0 : Option Nat) (a1 : Int32) (a2 : Int64) (a4 : Int32) (a5 : Int32) (a6 : Int32) (a7 : Int32) (q : Option Nat) (g : aH), fX2_aligned_p31 D n h a0 a1 a2 a4 a5 a6 a7 = some (q, g) → V p l e R s m args below meth c D n0 s0 (aEnd D below args s h0 (.inr (some (va_rf q)), g)) h 31 [(0, false, va_rf a0), (1, false, .int a1), (2, true, .long a2), (4, false, .int a4), (5, false, .int a5), (6, false, .int a6), (7, false, .int a7)] [] := by
  have C := X.1
  intro n
  induction n with
  | zero =>
    intro _ _ _ _ _ _ _ _ _ _ hf
    rw [fX2_aligned_p31] at hf
    cases hf
  | succ n ih =>
    intro h a0 a1 a2 a4 a5 a6 a7 q g hf
    rw [fX2_aligned_p31] at hf
    refine v_iload (pc := 31) (j := 6) C dX2_aligned_31 rfl ?_
    refine v_iconst (pc := 33) (v := (2 : Int32)) C dX2_aligned_33 rfl ?_
    refine v_icmp_gt (pc := 34) (tgt := 133) C dX2_aligned_34 rfl (fun hc => ?_) (fun hc => ?_)
    · rw [if_pos hc] at hf
      exact V.sub [3, 4, 5] rfl (vX2_aligned_p133 X hf)
    · rw [if_neg hc] at hf
      refine v_bipush (pc := 37) (v := (-2 : Int32)) C dX2_aligned_37 rfl ?_
      refine v_istore (pc := 39) (lv' := [(8, false, .int (-2 : Int32)), (0, false, va_rf a0), (1, false, .int a1), (2, true, .long a2), (4, false, .int a4), (5, false, .int a5), (6, false, .int a6), (7, false, .int a7)]) C dX2_aligned_39 (by decide) rfl ?_
      exact V.sub [1, 2, 3, 4, 5, 6, 7, 0] rfl (vX2_aligned_p41 X ih _ _ _ _ _ _ _ _ _ _ _ _ hf)
def fX2_aligned (D : aD) (h : aH) (a0 : Option Nat) (a1 : Int32) : Option (Option Nat × aH) :=
  (gR h 1 11 a0).bind fun x1 =>
  (aIs h 15 x1).bind fun _ =>
  (fJ2_get D h x1 a1).bind fun x3 =>
  (aCast h [100] x3).bind fun _ =>
  (eI h x3 (1 : Int32)).bind fun x6 =>
  (aIs h 1 a0).bind fun _ =>
  (fX2_cells D h a0 x6).bind fun x8 =>
  fX2_aligned_p31 D FU h a0 a1 x8 (0 : Int32) (0 : Int32) (-1 : Int32) (-2 : Int32)
theorem vX2_aligned {h : aH} {a0 : Option Nat} {a1 : Int32} {q : Option Nat} {g : aH} (X : aX p l R s m meth c D n0 s0 yX2_aligned cX2_aligned 4 88 10 (some (.array .int)) h0) (hf : fX2_aligned D h a0 a1 = some (q, g)) : V p l e R s m args below meth c D n0 s0 (aEnd D below args s h0 (.inr (some (va_rf q)), g)) h 0 [(0, false, va_rf a0), (1, false, .int a1)] [] := by
  have C := X.1
  unfold fX2_aligned at hf
  refine v_aload_n (pc := 0) (j := 0) C dX2_aligned_0 rfl rfl ?_
  refine v_aload_n (pc := 1) (j := 0) C dX2_aligned_1 rfl rfl ?_
  obtain ⟨x1, ex1, hf⟩ := oB hf
  refine v_getF (pc := 2) C lk_X2_41 (gR_eq ex1) dX2_aligned_2 ?_
  refine v_iload_n (pc := 5) (j := 1) C dX2_aligned_5 rfl rfl ?_
  obtain ⟨b2, eb2, hf⟩ := oB hf
  obtain ⟨rb2, _, kb2⟩ := aIs_eq eb2
  obtain ⟨x3, ex3, hf⟩ := oB hf
  refine v_call (pc := 6) (d_V (pc := 6) C (As := [.int a1]) (rest := [va_rf a0]) rb2 kb2 nt_15 q2520 yi_J2_get_java_util_ArrayList yk_J2_get rfl (by decide) (by decide) (Nat.le_trans (aw_r aw_0) (by decide)) rfl (mJ2_get C.st ex3) dX2_aligned_6) ?_
  obtain ⟨_, e5, hf⟩ := oB hf
  refine v_cast (pc := 9) C q2521 ct__I e5 dX2_aligned_9 ?_
  refine v_iconst (pc := 12) (v := (1 : Int32)) C dX2_aligned_12 rfl ?_
  obtain ⟨x6, ex6, hf⟩ := oB hf
  refine v_iaload (pc := 13) C ex6 dX2_aligned_13 ?_
  obtain ⟨b7, eb7, hf⟩ := oB hf
  obtain ⟨rb7, _, kb7⟩ := aIs_eq eb7
  obtain ⟨x8, ex8, hf⟩ := oB hf
  refine v_call (pc := 14) (d_V (pc := 14) C (As := [.int x6]) (rest := []) rb7 kb7 nt_1 q2572 yi_X2_cells_FigureSurveyModel yk_X2_cells rfl (by decide) (by decide) (Nat.le_trans aw_0 (by decide)) rfl (mX2_cells C.st ex8) dX2_aligned_14) ?_
  refine v_lstore_n (pc := 17) (lv' := [(2, true, .long x8), (0, false, va_rf a0), (1, false, .int a1)]) C dX2_aligned_17 rfl (by decide) rfl ?_
  refine v_iconst (pc := 18) (v := (0 : Int32)) C dX2_aligned_18 rfl ?_
  refine v_istore (pc := 19) (lv' := [(4, false, .int (0 : Int32)), (2, true, .long x8), (0, false, va_rf a0), (1, false, .int a1)]) C dX2_aligned_19 (by decide) rfl ?_
  refine v_iconst (pc := 21) (v := (0 : Int32)) C dX2_aligned_21 rfl ?_
  refine v_istore (pc := 22) (lv' := [(5, false, .int (0 : Int32)), (4, false, .int (0 : Int32)), (2, true, .long x8), (0, false, va_rf a0), (1, false, .int a1)]) C dX2_aligned_22 (by decide) rfl ?_
  refine v_iconst (pc := 24) (v := (-1 : Int32)) C dX2_aligned_24 rfl ?_
  refine v_istore (pc := 25) (lv' := [(6, false, .int (-1 : Int32)), (5, false, .int (0 : Int32)), (4, false, .int (0 : Int32)), (2, true, .long x8), (0, false, va_rf a0), (1, false, .int a1)]) C dX2_aligned_25 (by decide) rfl ?_
  refine v_bipush (pc := 27) (v := (-2 : Int32)) C dX2_aligned_27 rfl ?_
  refine v_istore (pc := 29) (lv' := [(7, false, .int (-2 : Int32)), (6, false, .int (-1 : Int32)), (5, false, .int (0 : Int32)), (4, false, .int (0 : Int32)), (2, true, .long x8), (0, false, va_rf a0), (1, false, .int a1)]) C dX2_aligned_29 (by decide) rfl ?_
  exact V.sub [5, 6, 4, 3, 2, 1, 0] rfl (vX2_aligned_p31 X _ _ _ _ _ _ _ _ _ _ _ hf)
theorem mX2_aligned {l : Launch} {D : aD} {h : aH} {a0 : Option Nat} {a1 : Int32} {q : Option Nat} {g : aH} (hst : l.stackTraces = false) (hf : fX2_aligned D h a0 a1 = some (q, g)) : aM l D yX2_aligned cX2_aligned 10 (some (.array .int)) 4 88 [va_rf a0, .int a1] h (.inr (some (va_rf q)), g) :=
  aM.ofX [(false, va_rf a0), (false, .int a1)] rfl (ap_r (ap_c rfl ap_0)) (by decide +kernel) hst (al_of (aw_r (aw_i aw_0)) (by decide)) fun p e s m args below meth c X => V.sub (lv' := [(0, false, va_rf a0), (1, false, .int a1)]) [0, 1] rfl (vX2_aligned X hf)
def fX2_shiftOf (D : aD) (h : aH) (a0 : Option Nat) (a1 : Int32) : Option (Int32 × aH) :=
  (pF D h 1 0 a0 (.int (0 : Int32))).bind fun h1 =>
  (aIs h1 1 a0).bind fun _ =>
  (fX2_noTracing D h1 a0 a1).bind fun x3 =>
  if x3 = 0 then
  ((aIs h1 1 a0).bind fun _ =>
  bnd2 (fX2_aligned D h1 a0 a1) fun x6 h7 =>
  (eI h7 x6 (1 : Int32)).bind fun x8 =>
  (eI h7 x6 (0 : Int32)).bind fun x9 =>
  some (((((5 : Int32) * (x8 + (2 : Int32))) + x9) + (2 : Int32)), h7))
  else
  ((aIs h1 1 a0).bind fun _ =>
  bnd2 (fX2_err D h1 a0 (1 : Int32)) fun x11 h12 =>
  some (x11, h12))
theorem vX2_shiftOf {h : aH} {a0 : Option Nat} {a1 : Int32} {q : Int32} {g : aH} (X : aX p l R s m meth c D n0 s0 yX2_shiftOf cX2_shiftOf 5 117 3 (some .int) h0) (hf : fX2_shiftOf D h a0 a1 = some (q, g)) : V p l e R s m args below meth c D n0 s0 (aEnd D below args s h0 (.inr (some (.int q)), g)) h 0 [(0, false, va_rf a0), (1, false, .int a1)] [] := by
  have C := X.1
  unfold fX2_shiftOf at hf
  refine v_aload_n (pc := 0) (j := 0) C dX2_shiftOf_0 rfl rfl ?_
  refine v_iconst (pc := 1) (v := (0 : Int32)) C dX2_shiftOf_1 rfl ?_
  obtain ⟨h1, eh1, hf⟩ := oB hf
  refine v_putF (pc := 2) C lk_X2_69 tyX2 tyX2_ok nmX2 (tyX2_ok 0 (by decide)) rfl rfl eh1 dX2_shiftOf_2 ?_
  refine v_aload_n (pc := 5) (j := 0) C dX2_shiftOf_5 rfl rfl ?_
  refine v_iload_n (pc := 6) (j := 1) C dX2_shiftOf_6 rfl rfl ?_
  obtain ⟨b2, eb2, hf⟩ := oB hf
  obtain ⟨rb2, _, kb2⟩ := aIs_eq eb2
  obtain ⟨x3, ex3, hf⟩ := oB hf
  refine v_call (pc := 7) (d_V (pc := 7) C (As := [.int a1]) (rest := []) rb2 kb2 nt_1 q2602 yi_X2_noTracing_FigureSurveyModel yk_X2_noTracing rfl (by decide) (by decide) (Nat.le_trans aw_0 (by decide)) rfl (mX2_noTracing C.st ex3) dX2_shiftOf_7) ?_
  refine v_if_eq (pc := 10) (tgt := 19) C dX2_shiftOf_10 rfl (fun hc => ?_) (fun hc => ?_)
  · rw [if_pos hc] at hf
    refine v_aload_n (pc := 19) (j := 0) C dX2_shiftOf_19 rfl rfl ?_
    refine v_iload_n (pc := 20) (j := 1) C dX2_shiftOf_20 rfl rfl ?_
    obtain ⟨b5, eb5, hf⟩ := oB hf
    obtain ⟨rb5, _, kb5⟩ := aIs_eq eb5
    obtain ⟨x6, h7, ex6, hf⟩ := bnd2_eq hf
    refine v_call (pc := 21) (d_V (pc := 21) C (As := [.int a1]) (rest := []) rb5 kb5 nt_1 q2606 yi_X2_aligned_FigureSurveyModel yk_X2_aligned rfl (by decide) (by decide) (Nat.le_trans aw_0 (by decide)) rfl (mX2_aligned C.st ex6) dX2_shiftOf_21) ?_
    refine v_astore_n (pc := 24) (lv' := [(2, false, va_rf x6), (0, false, va_rf a0), (1, false, .int a1)]) C dX2_shiftOf_24 rfl (by decide) rfl ?_
    refine v_iconst (pc := 25) (v := (5 : Int32)) C dX2_shiftOf_25 rfl ?_
    refine v_aload_n (pc := 26) (j := 0) C dX2_shiftOf_26 rfl rfl ?_
    refine v_iconst (pc := 27) (v := (1 : Int32)) C dX2_shiftOf_27 rfl ?_
    obtain ⟨x8, ex8, hf⟩ := oB hf
    refine v_iaload (pc := 28) C ex8 dX2_shiftOf_28 ?_
    refine v_iconst (pc := 29) (v := (2 : Int32)) C dX2_shiftOf_29 rfl ?_
    refine v_iadd (pc := 30) C dX2_shiftOf_30 ?_
    refine v_imul (pc := 31) C dX2_shiftOf_31 ?_
    refine v_aload_n (pc := 32) (j := 0) C dX2_shiftOf_32 rfl rfl ?_
    refine v_iconst (pc := 33) (v := (0 : Int32)) C dX2_shiftOf_33 rfl ?_
    obtain ⟨x9, ex9, hf⟩ := oB hf
    refine v_iaload (pc := 34) C ex9 dX2_shiftOf_34 ?_
    refine v_iadd (pc := 35) C dX2_shiftOf_35 ?_
    refine v_iconst (pc := 36) (v := (2 : Int32)) C dX2_shiftOf_36 rfl ?_
    refine v_iadd (pc := 37) C dX2_shiftOf_37 ?_
    cases hf
    exact v_ireturn (pc := 38) C X.2.1 X.2.2.1 X.2.2.2.1 rfl dX2_shiftOf_38
  · rw [if_neg hc] at hf
    refine v_aload_n (pc := 13) (j := 0) C dX2_shiftOf_13 rfl rfl ?_
    refine v_iconst (pc := 14) (v := (1 : Int32)) C dX2_shiftOf_14 rfl ?_
    obtain ⟨b10, eb10, hf⟩ := oB hf
    obtain ⟨rb10, _, kb10⟩ := aIs_eq eb10
    obtain ⟨x11, h12, ex11, hf⟩ := bnd2_eq hf
    refine v_call (pc := 15) (d_V (pc := 15) C (As := [.int (1 : Int32)]) (rest := []) rb10 kb10 nt_1 q2498 yi_X2_err_FigureSurveyModel yk_X2_err rfl (by decide) (by decide) (Nat.le_trans aw_0 (by decide)) rfl (mX2_err C.st ex11) dX2_shiftOf_15) ?_
    cases hf
    exact v_ireturn (pc := 18) C X.2.1 X.2.2.1 X.2.2.2.1 rfl dX2_shiftOf_18
theorem mX2_shiftOf {l : Launch} {D : aD} {h : aH} {a0 : Option Nat} {a1 : Int32} {q : Int32} {g : aH} (hst : l.stackTraces = false) (hf : fX2_shiftOf D h a0 a1 = some (q, g)) : aM l D yX2_shiftOf cX2_shiftOf 3 (some .int) 5 117 [va_rf a0, .int a1] h (.inr (some (.int q)), g) :=
  aM.ofX [(false, va_rf a0), (false, .int a1)] rfl (ap_r (ap_c rfl ap_0)) (by decide +kernel) hst (al_of (aw_r (aw_i aw_0)) (by decide)) fun p e s m args below meth c X => V.sub (lv' := [(0, false, va_rf a0), (1, false, .int a1)]) [0, 1] rfl (vX2_shiftOf X hf)
def fX2_score (D : aD) (h : aH) (a0 : Option Nat) (a1 : Int32) : Option (Int32 × aH) :=
  (gR h 1 11 a0).bind fun x1 =>
  (aIs h 15 x1).bind fun _ =>
  (fJ2_get D h x1 a1).bind fun x3 =>
  (aCast h [100] x3).bind fun _ =>
  (eI h x3 (1 : Int32)).bind fun x6 =>
  (aIs h 1 a0).bind fun _ =>
  (fX2_cells D h a0 x6).bind fun x8 =>
  (aIs h 1 a0).bind fun _ =>
  bnd2 (fX2_aligned D h a0 a1) fun x11 h12 =>
  (eI h12 x11 (2 : Int32)).bind fun x13 =>
  (gR h12 1 12 a0).bind fun x14 =>
  (eL h12 x14 a1).bind fun x15 =>
  (fJ21_bitCount D h12 x15).bind fun x17 =>
  (fJ21_bitCount D h12 x8).bind fun x20 =>
  (ckN (x17 + x20)).bind fun _ =>
  some ((((200 : Int32) * x13) / (x17 + x20)), h12)
theorem vX2_score {h : aH} {a0 : Option Nat} {a1 : Int32} {q : Int32} {g : aH} (X : aX p l R s m meth c D n0 s0 yX2_score cX2_score 5 117 4 (some .int) h0) (hf : fX2_score D h a0 a1 = some (q, g)) : V p l e R s m args below meth c D n0 s0 (aEnd D below args s h0 (.inr (some (.int q)), g)) h 0 [(0, false, va_rf a0), (1, false, .int a1)] [] := by
  have C := X.1
  unfold fX2_score at hf
  refine v_aload_n (pc := 0) (j := 0) C dX2_score_0 rfl rfl ?_
  refine v_aload_n (pc := 1) (j := 0) C dX2_score_1 rfl rfl ?_
  obtain ⟨x1, ex1, hf⟩ := oB hf
  refine v_getF (pc := 2) C lk_X2_41 (gR_eq ex1) dX2_score_2 ?_
  refine v_iload_n (pc := 5) (j := 1) C dX2_score_5 rfl rfl ?_
  obtain ⟨b2, eb2, hf⟩ := oB hf
  obtain ⟨rb2, _, kb2⟩ := aIs_eq eb2
  obtain ⟨x3, ex3, hf⟩ := oB hf
  refine v_call (pc := 6) (d_V (pc := 6) C (As := [.int a1]) (rest := [va_rf a0]) rb2 kb2 nt_15 q2520 yi_J2_get_java_util_ArrayList yk_J2_get rfl (by decide) (by decide) (Nat.le_trans (aw_r aw_0) (by decide)) rfl (mJ2_get C.st ex3) dX2_score_6) ?_
  obtain ⟨_, e5, hf⟩ := oB hf
  refine v_cast (pc := 9) C q2521 ct__I e5 dX2_score_9 ?_
  refine v_iconst (pc := 12) (v := (1 : Int32)) C dX2_score_12 rfl ?_
  obtain ⟨x6, ex6, hf⟩ := oB hf
  refine v_iaload (pc := 13) C ex6 dX2_score_13 ?_
  obtain ⟨b7, eb7, hf⟩ := oB hf
  obtain ⟨rb7, _, kb7⟩ := aIs_eq eb7
  obtain ⟨x8, ex8, hf⟩ := oB hf
  refine v_call (pc := 14) (d_V (pc := 14) C (As := [.int x6]) (rest := []) rb7 kb7 nt_1 q2572 yi_X2_cells_FigureSurveyModel yk_X2_cells rfl (by decide) (by decide) (Nat.le_trans aw_0 (by decide)) rfl (mX2_cells C.st ex8) dX2_score_14) ?_
  refine v_lstore_n (pc := 17) (lv' := [(2, true, .long x8), (0, false, va_rf a0), (1, false, .int a1)]) C dX2_score_17 rfl (by decide) rfl ?_
  refine v_sipush (pc := 18) (v := (200 : Int32)) C dX2_score_18 rfl ?_
  refine v_aload_n (pc := 21) (j := 1) C dX2_score_21 rfl rfl ?_
  refine v_iload_n (pc := 22) (j := 2) C dX2_score_22 rfl rfl ?_
  obtain ⟨b10, eb10, hf⟩ := oB hf
  obtain ⟨rb10, _, kb10⟩ := aIs_eq eb10
  obtain ⟨x11, h12, ex11, hf⟩ := bnd2_eq hf
  refine v_call (pc := 23) (d_V (pc := 23) C (As := [.int a1]) (rest := [.int (200 : Int32)]) rb10 kb10 nt_1 q2606 yi_X2_aligned_FigureSurveyModel yk_X2_aligned rfl (by decide) (by decide) (Nat.le_trans (aw_i aw_0) (by decide)) rfl (mX2_aligned C.st ex11) dX2_score_23) ?_
  refine v_iconst (pc := 26) (v := (2 : Int32)) C dX2_score_26 rfl ?_
  obtain ⟨x13, ex13, hf⟩ := oB hf
  refine v_iaload (pc := 27) C ex13 dX2_score_27 ?_
  refine v_imul (pc := 28) C dX2_score_28 ?_
  refine v_aload_n (pc := 29) (j := 1) C dX2_score_29 rfl rfl ?_
  obtain ⟨x14, ex14, hf⟩ := oB hf
  refine v_getF (pc := 30) C lk_X2_44 (gR_eq ex14) dX2_score_30 ?_
  refine v_iload_n (pc := 33) (j := 2) C dX2_score_33 rfl rfl ?_
  obtain ⟨x15, ex15, hf⟩ := oB hf
  refine v_laload (pc := 34) C ex15 dX2_score_34 ?_
  obtain ⟨x17, ex17, hf⟩ := oB hf
  refine v_call (pc := 35) (d_S (pc := 35) C (As := [.long x15]) (rest := [.int ((200 : Int32) * x13)]) q2581 q558 yk_J21_bitCount rfl (by decide) (by decide) (Nat.le_trans (aw_i aw_0) (by decide)) rfl (mJ21_bitCount C.st ex17) dX2_score_35) ?_
  refine v_lload_n (pc := 38) (j := 0) C dX2_score_38 rfl rfl ?_
  obtain ⟨x20, ex20, hf⟩ := oB hf
  refine v_call (pc := 39) (d_S (pc := 39) C (As := [.long x8]) (rest := [.int x17, .int ((200 : Int32) * x13)]) q2581 q558 yk_J21_bitCount rfl (by decide) (by decide) (Nat.le_trans (aw_i (aw_i aw_0)) (by decide)) rfl (mJ21_bitCount C.st ex20) dX2_score_39) ?_
  refine v_iadd (pc := 42) C dX2_score_42 ?_
  obtain ⟨_, e22, hf⟩ := oB hf
  refine v_idiv (pc := 43) C dX2_score_43 (ckN_eq e22) ?_
  cases hf
  exact v_ireturn (pc := 44) C X.2.1 X.2.2.1 X.2.2.2.1 rfl dX2_score_44
theorem mX2_score {l : Launch} {D : aD} {h : aH} {a0 : Option Nat} {a1 : Int32} {q : Int32} {g : aH} (hst : l.stackTraces = false) (hf : fX2_score D h a0 a1 = some (q, g)) : aM l D yX2_score cX2_score 4 (some .int) 5 117 [va_rf a0, .int a1] h (.inr (some (.int q)), g) :=
  aM.ofX [(false, va_rf a0), (false, .int a1)] rfl (ap_r (ap_c rfl ap_0)) (by decide +kernel) hst (al_of (aw_r (aw_i aw_0)) (by decide)) fun p e s m args below meth c X => V.sub (lv' := [(0, false, va_rf a0), (1, false, .int a1)]) [0, 1] rfl (vX2_score X hf)
def fX2_scoreOf (D : aD) (h : aH) (a0 : Option Nat) (a1 : Int32) : Option (Int32 × aH) :=
  (pF D h 1 0 a0 (.int (0 : Int32))).bind fun h1 =>
  (aIs h1 1 a0).bind fun _ =>
  (fX2_noTracing D h1 a0 a1).bind fun x3 =>
  if x3 = 0 then
  ((aIs h1 1 a0).bind fun _ =>
  bnd2 (fX2_score D h1 a0 a1) fun x6 h7 =>
  some (x6, h7))
  else
  ((aIs h1 1 a0).bind fun _ =>
  bnd2 (fX2_err D h1 a0 (1 : Int32)) fun x9 h10 =>
  some (x9, h10))
theorem vX2_scoreOf {h : aH} {a0 : Option Nat} {a1 : Int32} {q : Int32} {g : aH} (X : aX p l R s m meth c D n0 s0 yX2_scoreOf cX2_scoreOf 6 140 2 (some .int) h0) (hf : fX2_scoreOf D h a0 a1 = some (q, g)) : V p l e R s m args below meth c D n0 s0 (aEnd D below args s h0 (.inr (some (.int q)), g)) h 0 [(0, false, va_rf a0), (1, false, .int a1)] [] := by
  have C := X.1
  unfold fX2_scoreOf at hf
  refine v_aload_n (pc := 0) (j := 0) C dX2_scoreOf_0 rfl rfl ?_
  refine v_iconst (pc := 1) (v := (0 : Int32)) C dX2_scoreOf_1 rfl ?_
  obtain ⟨h1, eh1, hf⟩ := oB hf
  refine v_putF (pc := 2) C lk_X2_69 tyX2 tyX2_ok nmX2 (tyX2_ok 0 (by decide)) rfl rfl eh1 dX2_scoreOf_2 ?_
  refine v_aload_n (pc := 5) (j := 0) C dX2_scoreOf_5 rfl rfl ?_
  refine v_iload_n (pc := 6) (j := 1) C dX2_scoreOf_6 rfl rfl ?_
  obtain ⟨b2, eb2, hf⟩ := oB hf
  obtain ⟨rb2, _, kb2⟩ := aIs_eq eb2
  obtain ⟨x3, ex3, hf⟩ := oB hf
  refine v_call (pc := 7) (d_V (pc := 7) C (As := [.int a1]) (rest := []) rb2 kb2 nt_1 q2602 yi_X2_noTracing_FigureSurveyModel yk_X2_noTracing rfl (by decide) (by decide) (Nat.le_trans aw_0 (by decide)) rfl (mX2_noTracing C.st ex3) dX2_scoreOf_7) ?_
  refine v_if_eq (pc := 10) (tgt := 21) C dX2_scoreOf_10 rfl (fun hc => ?_) (fun hc => ?_)
  · rw [if_pos hc] at hf
    refine v_aload_n (pc := 21) (j := 0) C dX2_scoreOf_21 rfl rfl ?_
    refine v_iload_n (pc := 22) (j := 1) C dX2_scoreOf_22 rfl rfl ?_
    obtain ⟨b5, eb5, hf⟩ := oB hf
    obtain ⟨rb5, _, kb5⟩ := aIs_eq eb5
    obtain ⟨x6, h7, ex6, hf⟩ := bnd2_eq hf
    refine v_call (pc := 23) (d_V (pc := 23) C (As := [.int a1]) (rest := []) rb5 kb5 nt_1 q2617 yi_X2_score_FigureSurveyModel yk_X2_score rfl (by decide) (by decide) (Nat.le_trans aw_0 (by decide)) rfl (mX2_score C.st ex6) dX2_scoreOf_23) ?_
    cases hf
    exact v_ireturn (pc := 26) C X.2.1 X.2.2.1 X.2.2.2.1 rfl dX2_scoreOf_26
  · rw [if_neg hc] at hf
    refine v_aload_n (pc := 13) (j := 0) C dX2_scoreOf_13 rfl rfl ?_
    refine v_iconst (pc := 14) (v := (1 : Int32)) C dX2_scoreOf_14 rfl ?_
    obtain ⟨b8, eb8, hf⟩ := oB hf
    obtain ⟨rb8, _, kb8⟩ := aIs_eq eb8
    obtain ⟨x9, h10, ex9, hf⟩ := bnd2_eq hf
    refine v_call (pc := 15) (d_V (pc := 15) C (As := [.int (1 : Int32)]) (rest := []) rb8 kb8 nt_1 q2498 yi_X2_err_FigureSurveyModel yk_X2_err rfl (by decide) (by decide) (Nat.le_trans aw_0 (by decide)) rfl (mX2_err C.st ex9) dX2_scoreOf_15) ?_
    refine v_goto (pc := 18) (tgt := 26) C dX2_scoreOf_18 rfl ?_
    cases hf
    exact v_ireturn (pc := 26) C X.2.1 X.2.2.1 X.2.2.2.1 rfl dX2_scoreOf_26
theorem mX2_scoreOf {l : Launch} {D : aD} {h : aH} {a0 : Option Nat} {a1 : Int32} {q : Int32} {g : aH} (hst : l.stackTraces = false) (hf : fX2_scoreOf D h a0 a1 = some (q, g)) : aM l D yX2_scoreOf cX2_scoreOf 2 (some .int) 6 140 [va_rf a0, .int a1] h (.inr (some (.int q)), g) :=
  aM.ofX [(false, va_rf a0), (false, .int a1)] rfl (ap_r (ap_c rfl ap_0)) (by decide +kernel) hst (al_of (aw_r (aw_i aw_0)) (by decide)) fun p e s m args below meth c X => V.sub (lv' := [(0, false, va_rf a0), (1, false, .int a1)]) [0, 1] rfl (vX2_scoreOf X hf)
def fX2_handScore_p72 (D : aD) (K27 : aH → (Option Nat) → Int32 → Int32 → Int32 → Int32 → Option (Int32 × aH)) (h : aH) (a0 : Option Nat) (a1 : Int32) (a2 : Int32) (a3 : Int32) (a4 : Int32) : Option (Int32 × aH) :=
  K27 h a0 a1 a2 a3 (a4 + 1)
theorem vX2_handScore_p72 {h : aH} {K27 : aH → (Option Nat) → Int32 → Int32 → Int32 → Int32 → Option (Int32 × aH)} {a0 : Option Nat} {a1 : Int32} {a2 : Int32} {a3 : Int32} {a4 : Int32} {q : Int32} {g : aH} (X : aX p l R s m meth c D n0 s0 yX2_handScore cX2_handScore 6 140 5 (some .int) h0) (k27 : ∀ (h : aH) (a0 : Option Nat) (a1 : Int32) (a2 : Int32) (a3 : Int32) (a4 : Int32) (q : Int32) (g : aH), K27 h a0 a1 a2 a3 a4 = some (q, g) → V p l e R s m args below meth c D n0 s0 (aEnd D below args s h0 (.inr (some (.int q)), g)) h 27 [(0, false, va_rf a0), (1, false, .int a1), (2, false, .int a2), (3, false, .int a3), (4, false, .int a4)] []) (hf : fX2_handScore_p72 D K27 h a0 a1 a2 a3 a4 = some (q, g)) : V p l e R s m args below meth c D n0 s0 (aEnd D below args s h0 (.inr (some (.int q)), g)) h 72 [(0, false, va_rf a0), (1, false, .int a1), (2, false, .int a2), (3, false, .int a3), (4, false, .int a4)] [] := by
  have C := X.1
  unfold fX2_handScore_p72 at hf
  refine v_iinc (pc := 72) (j := 4) (v := (a4 + 1)) (lv' := [(4, false, .int (a4 + 1)), (0, false, va_rf a0), (1, false, .int a1), (2, false, .int a2), (3, false, .int a3)]) C dX2_handScore_72 rfl rfl (by decide) rfl ?_
  refine v_goto (pc := 75) (tgt := 27) C dX2_handScore_75 rfl ?_
  exact V.sub [1, 2, 3, 4, 0] rfl (k27 _ _ _ _ _ _ _ _ hf)
def fX2_handScore_p78 (D : aD) (h : aH) (a2 : Int32) (a3 : Int32) : Option (Int32 × aH) :=
  if a3 = 0 then
  (some ((-1 : Int32), h))
  else
  ((ckN a3).bind fun _ =>
  some ((a2 / a3), h))
theorem vX2_handScore_p78 {h : aH} {a2 : Int32} {a3 : Int32} {q : Int32} {g : aH} (X : aX p l R s m meth c D n0 s0 yX2_handScore cX2_handScore 6 140 5 (some .int) h0) (hf : fX2_handScore_p78 D h a2 a3 = some (q, g)) : V p l e R s m args below meth c D n0 s0 (aEnd D below args s h0 (.inr (some (.int q)), g)) h 78 [(2, false, .int a2), (3, false, .int a3)] [] := by
  have C := X.1
  unfold fX2_handScore_p78 at hf
  refine v_iload_n (pc := 78) (j := 1) C dX2_handScore_78 rfl rfl ?_
  refine v_if_ne (pc := 79) (tgt := 86) C dX2_handScore_79 rfl (fun hc => ?_) (fun hc => ?_)
  · rw [if_neg hc] at hf
    refine v_iload_n (pc := 86) (j := 0) C dX2_handScore_86 rfl rfl ?_
    refine v_iload_n (pc := 87) (j := 1) C dX2_handScore_87 rfl rfl ?_
    obtain ⟨_, e1, hf⟩ := oB hf
    refine v_idiv (pc := 88) C dX2_handScore_88 (ckN_eq e1) ?_
    cases hf
    exact v_ireturn (pc := 89) C X.2.1 X.2.2.1 X.2.2.2.1 rfl dX2_handScore_89
  · rw [if_pos (Decidable.of_not_not hc)] at hf
    refine v_iconst (pc := 82) (v := (-1 : Int32)) C dX2_handScore_82 rfl ?_
    refine v_goto (pc := 83) (tgt := 89) C dX2_handScore_83 rfl ?_
    cases hf
    exact v_ireturn (pc := 89) C X.2.1 X.2.2.1 X.2.2.2.1 rfl dX2_handScore_89
def fX2_handScore_p27 (D : aD) : Nat → aH → (Option Nat) → Int32 → Int32 → Int32 → Int32 → Option (Int32 × aH)
  | 0, _, _, _, _, _, _ => none
  | n + 1, h, a0, a1, a2, a3, a4 =>
  (gR h 1 11 a0).bind fun x1 =>
  (aIs h 15 x1).bind fun _ =>
  (fJ2_size D h x1).bind fun x3 =>
  if x3 ≤ a4 then
  (fX2_handScore_p78 D h a2 a3)
  else
  ((gR h 1 11 a0).bind fun x5 =>
  (aIs h 15 x5).bind fun _ =>
  (fJ2_get D h x5 a4).bind fun x7 =>
  (aCast h [100] x7).bind fun _ =>
  (eI h x7 (0 : Int32)).bind fun x10 =>
  if x10 = a1 then
  ((aIs h 1 a0).bind fun _ =>
  bnd2 (fX2_score D h a0 a4) fun x12 h13 =>
  (some ((a2 + x12))).bind fun x14 =>
  fX2_handScore_p72 D (fX2_handScore_p27 D n) h13 a0 a1 x14 (a3 + 1) a4)
  else
  (fX2_handScore_p72 D (fX2_handScore_p27 D n) h a0 a1 a2 a3 a4))
theorem vX2_handScore_p27 (X : aX p l R s m meth c D n0 s0 yX2_handScore cX2_handScore 6 140 5 (some .int) h0) : ∀ (n : Nat) (h : aH) (a0 : Option Nat) (a1 : Int32) (a2 : Int32) (a3 : Int32) (a4 : Int32) (q : Int32) (g : aH), fX2_handScore_p27 D n h a0 a1 a2 a3 a4 = some (q, g) → V p l e R s m args below meth c D n0 s0 (aEnd D below args s h0 (.inr (some (.int q)), g)) h 27 [(0, false, va_rf a0), (1, false, .int a1), (2, false, .int a2), (3, false, .int a3), (4, false, .int a4)] [] := by
  have C := X.1
  intro n
  induction n with
  | zero =>
    intro _ _ _ _ _ _ _ _ hf
    rw [fX2_handScore_p27] at hf
    cases hf
  | succ n ih =>
    intro h a0 a1 a2 a3 a4 q g hf
    rw [fX2_handScore_p27] at hf
    refine v_iload (pc := 27) (j := 4) C dX2_handScore_27 rfl ?_
    refine v_aload_n (pc := 29) (j := 0) C dX2_handScore_29 rfl rfl ?_
    obtain ⟨x1, ex1, hf⟩ := oB hf
    refine v_getF (pc := 30) C lk_X2_41 (gR_eq ex1) dX2_handScore_30 ?_
    obtain ⟨b2, eb2, hf⟩ := oB hf
    obtain ⟨rb2, _, kb2⟩ := aIs_eq eb2
    obtain ⟨x3, ex3, hf⟩ := oB hf
    refine v_call (pc := 33) (d_V (pc := 33) C (As := []) (rest := [.int a4]) rb2 kb2 nt_15 q2502 yi_J2_size_java_util_ArrayList yk_J2_size rfl (by decide) (by decide) (Nat.le_trans (aw_i aw_0) (by decide)) rfl (mJ2_size C.st ex3) dX2_handScore_33) ?_
    refine v_icmp_ge (pc := 36) (tgt := 78) C dX2_handScore_36 rfl (fun hc => ?_) (fun hc => ?_)
    · rw [if_pos hc] at hf
      exact V.sub [2, 3] rfl (vX2_handScore_p78 X hf)
    · rw [if_neg hc] at hf
      refine v_aload_n (pc := 39) (j := 0) C dX2_handScore_39 rfl rfl ?_
      obtain ⟨x5, ex5, hf⟩ := oB hf
      refine v_getF (pc := 40) C lk_X2_41 (gR_eq ex5) dX2_handScore_40 ?_
      refine v_iload (pc := 43) (j := 4) C dX2_handScore_43 rfl ?_
      obtain ⟨b6, eb6, hf⟩ := oB hf
      obtain ⟨rb6, _, kb6⟩ := aIs_eq eb6
      obtain ⟨x7, ex7, hf⟩ := oB hf
      refine v_call (pc := 45) (d_V (pc := 45) C (As := [.int a4]) (rest := []) rb6 kb6 nt_15 q2520 yi_J2_get_java_util_ArrayList yk_J2_get rfl (by decide) (by decide) (Nat.le_trans aw_0 (by decide)) rfl (mJ2_get C.st ex7) dX2_handScore_45) ?_
      obtain ⟨_, e9, hf⟩ := oB hf
      refine v_cast (pc := 48) C q2521 ct__I e9 dX2_handScore_48 ?_
      refine v_iconst (pc := 51) (v := (0 : Int32)) C dX2_handScore_51 rfl ?_
      obtain ⟨x10, ex10, hf⟩ := oB hf
      refine v_iaload (pc := 52) C ex10 dX2_handScore_52 ?_
      refine v_iload_n (pc := 53) (j := 1) C dX2_handScore_53 rfl rfl ?_
      refine v_icmp_eq (pc := 54) (tgt := 60) C dX2_handScore_54 rfl (fun hc => ?_) (fun hc => ?_)
      · rw [if_pos hc] at hf
        refine v_iload_n (pc := 60) (j := 2) C dX2_handScore_60 rfl rfl ?_
        refine v_aload_n (pc := 61) (j := 0) C dX2_handScore_61 rfl rfl ?_
        refine v_iload (pc := 62) (j := 4) C dX2_handScore_62 rfl ?_
        obtain ⟨b11, eb11, hf⟩ := oB hf
        obtain ⟨rb11, _, kb11⟩ := aIs_eq eb11
        obtain ⟨x12, h13, ex12, hf⟩ := bnd2_eq hf
        refine v_call (pc := 64) (d_V (pc := 64) C (As := [.int a4]) (rest := [.int a2]) rb11 kb11 nt_1 q2617 yi_X2_score_FigureSurveyModel yk_X2_score rfl (by decide) (by decide) (Nat.le_trans (aw_i aw_0) (by decide)) rfl (mX2_score C.st ex12) dX2_handScore_64) ?_
        refine v_iadd (pc := 67) C dX2_handScore_67 ?_
        obtain ⟨x14, ex14, hf⟩ := oB hf
        refine vst (Option.some.inj ex14) (fun z => .int z :: []) ?_
        refine v_istore_n (pc := 68) (lv' := [(2, false, .int x14), (0, false, va_rf a0), (1, false, .int a1), (3, false, .int a3), (4, false, .int a4)]) C dX2_handScore_68 rfl (by decide) rfl ?_
        refine v_iinc (pc := 69) (j := 3) (v := (a3 + 1)) (lv' := [(3, false, .int (a3 + 1)), (2, false, .int x14), (0, false, va_rf a0), (1, false, .int a1), (4, false, .int a4)]) C dX2_handScore_69 rfl rfl (by decide) rfl ?_
        exact V.sub [2, 3, 1, 0, 4] rfl (vX2_handScore_p72 X ih hf)
      · rw [if_neg hc] at hf
        refine v_goto (pc := 57) (tgt := 72) C dX2_handScore_57 rfl ?_
        exact V.sub [0, 1, 2, 3, 4] rfl (vX2_handScore_p72 X ih hf)
def fX2_handScore (D : aD) (h : aH) (a0 : Option Nat) (a1 : Int32) : Option (Int32 × aH) :=
  (pF D h 1 0 a0 (.int (0 : Int32))).bind fun h1 =>
  (fX2_in D h1 a1 (0 : Int32) (5 : Int32)).bind fun x3 =>
  if x3 = 0 then
  ((aIs h1 1 a0).bind fun _ =>
  bnd2 (fX2_err D h1 a0 (1 : Int32)) fun x6 h7 =>
  some (x6, h7))
  else
  (fX2_handScore_p27 D FU h1 a0 a1 (0 : Int32) (0 : Int32) (0 : Int32))
theorem vX2_handScore {h : aH} {a0 : Option Nat} {a1 : Int32} {q : Int32} {g : aH} (X : aX p l R s m meth c D n0 s0 yX2_handScore cX2_handScore 6 140 5 (some .int) h0) (hf : fX2_handScore D h a0 a1 = some (q, g)) : V p l e R s m args below meth c D n0 s0 (aEnd D below args s h0 (.inr (some (.int q)), g)) h 0 [(0, false, va_rf a0), (1, false, .int a1)] [] := by
  have C := X.1
  unfold fX2_handScore at hf
  refine v_aload_n (pc := 0) (j := 0) C dX2_handScore_0 rfl rfl ?_
  refine v_iconst (pc := 1) (v := (0 : Int32)) C dX2_handScore_1 rfl ?_
  obtain ⟨h1, eh1, hf⟩ := oB hf
  refine v_putF (pc := 2) C lk_X2_69 tyX2 tyX2_ok nmX2 (tyX2_ok 0 (by decide)) rfl rfl eh1 dX2_handScore_2 ?_
  refine v_iload_n (pc := 5) (j := 1) C dX2_handScore_5 rfl rfl ?_
  refine v_iconst (pc := 6) (v := (0 : Int32)) C dX2_handScore_6 rfl ?_
  refine v_iconst (pc := 7) (v := (5 : Int32)) C dX2_handScore_7 rfl ?_
  obtain ⟨x3, ex3, hf⟩ := oB hf
  refine v_call (pc := 8) (d_S (pc := 8) C (As := [.int a1, .int (0 : Int32), .int (5 : Int32)]) (rest := []) q2495 q2496 yk_X2_in rfl (by decide) (by decide) (Nat.le_trans aw_0 (by decide)) rfl (mX2_in C.st ex3) dX2_handScore_8) ?_
  refine v_if_ne (pc := 11) (tgt := 20) C dX2_handScore_11 rfl (fun hc => ?_) (fun hc => ?_)
  · rw [if_neg hc] at hf
    refine v_iconst (pc := 20) (v := (0 : Int32)) C dX2_handScore_20 rfl ?_
    refine v_istore_n (pc := 21) (lv' := [(2, false, .int (0 : Int32)), (0, false, va_rf a0), (1, false, .int a1)]) C dX2_handScore_21 rfl (by decide) rfl ?_
    refine v_iconst (pc := 22) (v := (0 : Int32)) C dX2_handScore_22 rfl ?_
    refine v_istore_n (pc := 23) (lv' := [(3, false, .int (0 : Int32)), (2, false, .int (0 : Int32)), (0, false, va_rf a0), (1, false, .int a1)]) C dX2_handScore_23 rfl (by decide) rfl ?_
    refine v_iconst (pc := 24) (v := (0 : Int32)) C dX2_handScore_24 rfl ?_
    refine v_istore (pc := 25) (lv' := [(4, false, .int (0 : Int32)), (3, false, .int (0 : Int32)), (2, false, .int (0 : Int32)), (0, false, va_rf a0), (1, false, .int a1)]) C dX2_handScore_25 (by decide) rfl ?_
    exact V.sub [3, 4, 2, 1, 0] rfl (vX2_handScore_p27 X _ _ _ _ _ _ _ _ _ hf)
  · rw [if_pos (Decidable.of_not_not hc)] at hf
    refine v_aload_n (pc := 14) (j := 0) C dX2_handScore_14 rfl rfl ?_
    refine v_iconst (pc := 15) (v := (1 : Int32)) C dX2_handScore_15 rfl ?_
    obtain ⟨b5, eb5, hf⟩ := oB hf
    obtain ⟨rb5, _, kb5⟩ := aIs_eq eb5
    obtain ⟨x6, h7, ex6, hf⟩ := bnd2_eq hf
    refine v_call (pc := 16) (d_V (pc := 16) C (As := [.int (1 : Int32)]) (rest := []) rb5 kb5 nt_1 q2498 yi_X2_err_FigureSurveyModel yk_X2_err rfl (by decide) (by decide) (Nat.le_trans aw_0 (by decide)) rfl (mX2_err C.st ex6) dX2_handScore_16) ?_
    cases hf
    exact v_ireturn (pc := 19) C X.2.1 X.2.2.1 X.2.2.2.1 rfl dX2_handScore_19
theorem mX2_handScore {l : Launch} {D : aD} {h : aH} {a0 : Option Nat} {a1 : Int32} {q : Int32} {g : aH} (hst : l.stackTraces = false) (hf : fX2_handScore D h a0 a1 = some (q, g)) : aM l D yX2_handScore cX2_handScore 5 (some .int) 6 140 [va_rf a0, .int a1] h (.inr (some (.int q)), g) :=
  aM.ofX [(false, va_rf a0), (false, .int a1)] rfl (ap_r (ap_c rfl ap_0)) (by decide +kernel) hst (al_of (aw_r (aw_i aw_0)) (by decide)) fun p e s m args below meth c X => V.sub (lv' := [(0, false, va_rf a0), (1, false, .int a1)]) [0, 1] rfl (vX2_handScore X hf)
def fX2_consensus_p125 (D : aD) (K30 : aH → (Option Nat) → Int32 → (Option Nat) → Int32 → Int32 → Option (Int64 × aH)) (h : aH) (a0 : Option Nat) (a1 : Int32) (a2 : Option Nat) (a3 : Int32) (a4 : Int32) : Option (Int64 × aH) :=
  K30 h a0 a1 a2 a3 (a4 + 1)
theorem vX2_consensus_p125 {h : aH} {K30 : aH → (Option Nat) → Int32 → (Option Nat) → Int32 → Int32 → Option (Int64 × aH)} {a0 : Option Nat} {a1 : Int32} {a2 : Option Nat} {a3 : Int32} {a4 : Int32} {q : Int64} {g : aH} (X : aX p l R s m meth c D n0 s0 yX2_consensus cX2_consensus 5 117 9 (some .long) h0) (k30 : ∀ (h : aH) (a0 : Option Nat) (a1 : Int32) (a2 : Option Nat) (a3 : Int32) (a4 : Int32) (q : Int64) (g : aH), K30 h a0 a1 a2 a3 a4 = some (q, g) → V p l e R s m args below meth c D n0 s0 (aEnd D below args s h0 (.inr (some (.long q)), g)) h 30 [(0, false, va_rf a0), (1, false, .int a1), (2, false, va_rf a2), (3, false, .int a3), (4, false, .int a4)] []) (hf : fX2_consensus_p125 D K30 h a0 a1 a2 a3 a4 = some (q, g)) : V p l e R s m args below meth c D n0 s0 (aEnd D below args s h0 (.inr (some (.long q)), g)) h 125 [(0, false, va_rf a0), (1, false, .int a1), (2, false, va_rf a2), (3, false, .int a3), (4, false, .int a4)] [] := by
  have C := X.1
  unfold fX2_consensus_p125 at hf
  refine v_iinc (pc := 125) (j := 4) (v := (a4 + 1)) (lv' := [(4, false, .int (a4 + 1)), (0, false, va_rf a0), (1, false, .int a1), (2, false, va_rf a2), (3, false, .int a3)]) C dX2_consensus_125 rfl rfl (by decide) rfl ?_
  refine v_goto (pc := 128) (tgt := 30) C dX2_consensus_128 rfl ?_
  exact V.sub [1, 2, 3, 4, 0] rfl (k30 _ _ _ _ _ _ _ _ hf)
def fX2_consensus_p122 (D : aD) (K30 : aH → (Option Nat) → Int32 → (Option Nat) → Int32 → Int32 → Option (Int64 × aH)) (h : aH) (a0 : Option Nat) (a1 : Int32) (a2 : Option Nat) (a3 : Int32) (a4 : Int32) : Option (Int64 × aH) :=
  fX2_consensus_p125 D K30 h a0 a1 a2 (a3 + 1) a4
theorem vX2_consensus_p122 {h : aH} {K30 : aH → (Option Nat) → Int32 → (Option Nat) → Int32 → Int32 → Option (Int64 × aH)} {a0 : Option Nat} {a1 : Int32} {a2 : Option Nat} {a3 : Int32} {a4 : Int32} {q : Int64} {g : aH} (X : aX p l R s m meth c D n0 s0 yX2_consensus cX2_consensus 5 117 9 (some .long) h0) (k30 : ∀ (h : aH) (a0 : Option Nat) (a1 : Int32) (a2 : Option Nat) (a3 : Int32) (a4 : Int32) (q : Int64) (g : aH), K30 h a0 a1 a2 a3 a4 = some (q, g) → V p l e R s m args below meth c D n0 s0 (aEnd D below args s h0 (.inr (some (.long q)), g)) h 30 [(0, false, va_rf a0), (1, false, .int a1), (2, false, va_rf a2), (3, false, .int a3), (4, false, .int a4)] []) (hf : fX2_consensus_p122 D K30 h a0 a1 a2 a3 a4 = some (q, g)) : V p l e R s m args below meth c D n0 s0 (aEnd D below args s h0 (.inr (some (.long q)), g)) h 122 [(0, false, va_rf a0), (1, false, .int a1), (2, false, va_rf a2), (3, false, .int a3), (4, false, .int a4)] [] := by
  have C := X.1
  unfold fX2_consensus_p122 at hf
  refine v_iinc (pc := 122) (j := 3) (v := (a3 + 1)) (lv' := [(3, false, .int (a3 + 1)), (0, false, va_rf a0), (1, false, .int a1), (2, false, va_rf a2), (4, false, .int a4)]) C dX2_consensus_122 rfl rfl (by decide) rfl ?_
  exact V.sub [1, 2, 3, 0, 4] rfl (vX2_consensus_p125 X k30 hf)
def fX2_consensus_p94 (D : aD) (K30 : aH → (Option Nat) → Int32 → (Option Nat) → Int32 → Int32 → Option (Int64 × aH)) : Nat → aH → (Option Nat) → Int32 → (Option Nat) → Int32 → Int32 → Int64 → Int32 → Option (Int64 × aH)
  | 0, _, _, _, _, _, _, _, _ => none
  | n + 1, h, a0, a1, a2, a3, a4, a6, a8 =>
  if (64 : Int32) ≤ a8 then
  (fX2_consensus_p122 D K30 h a0 a1 a2 a3 a4)
  else
  ((eI h a2 a8).bind fun x1 =>
  (sF D h 100 a2 a8 (.int (x1 + ((a6.toUInt64 >>> (a8.toInt64.toUInt64 &&& Int64.toUInt64 63)).toInt64 &&& (1 : Int64)).toInt32))).bind fun h2 =>
  fX2_consensus_p94 D K30 n h2 a0 a1 a2 a3 a4 a6 (a8 + 1))
theorem vX2_consensus_p94 {K30 : aH → (Option Nat) → Int32 → (Option Nat) → Int32 → Int32 → Option (Int64 × aH)} (X : aX p l R s m meth c D n0 s0 yX2_consensus cX2_consensus 5 117 9 (some .long) h0) (k30 : ∀ (h : aH) (a0 : Option Nat) (a1 : Int32) (a2 : Option Nat) (a3 : Int32) (a4 : Int32) (q : Int64) (g : aH), K30 h a0 a1 a2 a3 a4 = some (q, g) → V p l e R s m args below meth c D n0 s0 (aEnd D below args s h0 (.inr (some (.long q)), g)) h 30 [(0, false, va_rf a0), (1, false, .int a1), (2, false, va_rf a2), (3, false, .int a3), (4, false, .int a4)] []) : ∀ (n : Nat) (h : aH) (a0 : Option Nat) (a1 : Int32) (a2 : Option Nat) (a3 : Int32) (a4 : Int32) (a6 : Int64) (a8 : Int32) (q : Int64) (g : aH), fX2_consensus_p94 D K30 n h a0 a1 a2 a3 a4 a6 a8 = some (q, g) → V p l e R s m args below meth c D n0 s0 (aEnd D below args s h0 (.inr (some (.long q)), g)) h 94 [(0, false, va_rf a0), (1, false, .int a1), (2, false, va_rf a2), (3, false, .int a3), (4, false, .int a4), (6, true, .long a6), (8, false, .int a8)] [] := by
  have C := X.1
  intro n
  induction n with
  | zero =>
    intro _ _ _ _ _ _ _ _ _ _ hf
    rw [fX2_consensus_p94] at hf
    cases hf
  | succ n ih =>
    intro h a0 a1 a2 a3 a4 a6 a8 q g hf
    rw [fX2_consensus_p94] at hf
    refine v_iload (pc := 94) (j := 6) C dX2_consensus_94 rfl ?_
    refine v_bipush (pc := 96) (v := (64 : Int32)) C dX2_consensus_96 rfl ?_
    refine v_icmp_ge (pc := 98) (tgt := 122) C dX2_consensus_98 rfl (fun hc => ?_) (fun hc => ?_)
    · rw [if_pos hc] at hf
      exact V.sub [0, 1, 2, 3, 4] rfl (vX2_consensus_p122 X k30 hf)
    · rw [if_neg hc] at hf
      refine v_aload_n (pc := 101) (j := 2) C dX2_consensus_101 rfl rfl ?_
      refine v_iload (pc := 102) (j := 6) C dX2_consensus_102 rfl ?_
      refine v_dup2_11 (pc := 104) C dX2_consensus_104 rfl (va_rfc _) ?_
      obtain ⟨x1, ex1, hf⟩ := oB hf
      refine v_iaload (pc := 105) C ex1 dX2_consensus_105 ?_
      refine v_lload (pc := 106) (j := 5) C dX2_consensus_106 rfl ?_
      refine v_iload (pc := 108) (j := 6) C dX2_consensus_108 rfl ?_
      refine v_lushr (pc := 110) C dX2_consensus_110 ?_
      refine v_lconst (pc := 111) (v := (1 : Int64)) C dX2_consensus_111 rfl ?_
      refine v_land (pc := 112) C dX2_consensus_112 ?_
      refine v_l2i (pc := 113) C dX2_consensus_113 ?_
      refine v_iadd (pc := 114) C dX2_consensus_114 ?_
      obtain ⟨h2, eh2, hf⟩ := oB hf
      refine v_iastore (pc := 115) C eh2 dX2_consensus_115 ?_
      refine v_iinc (pc := 116) (j := 6) (v := (a8 + 1)) (lv' := [(8, false, .int (a8 + 1)), (0, false, va_rf a0), (1, false, .int a1), (2, false, va_rf a2), (3, false, .int a3), (4, false, .int a4), (6, true, .long a6)]) C dX2_consensus_116 rfl rfl (by decide) rfl ?_
      refine v_goto (pc := 119) (tgt := 94) C dX2_consensus_119 rfl ?_
      exact V.sub [1, 2, 3, 4, 5, 6, 0] rfl (ih _ _ _ _ _ _ _ _ _ _ hf)
def fX2_consensus_p163 (D : aD) (K137 : aH → (Option Nat) → Int32 → Int64 → Int32 → Option (Int64 × aH)) (h : aH) (a2 : Option Nat) (a3 : Int32) (a4 : Int64) (a6 : Int32) : Option (Int64 × aH) :=
  K137 h a2 a3 a4 (a6 + 1)
theorem vX2_consensus_p163 {h : aH} {K137 : aH → (Option Nat) → Int32 → Int64 → Int32 → Option (Int64 × aH)} {a2 : Option Nat} {a3 : Int32} {a4 : Int64} {a6 : Int32} {q : Int64} {g : aH} (X : aX p l R s m meth c D n0 s0 yX2_consensus cX2_consensus 5 117 9 (some .long) h0) (k137 : ∀ (h : aH) (a2 : Option Nat) (a3 : Int32) (a4 : Int64) (a6 : Int32) (q : Int64) (g : aH), K137 h a2 a3 a4 a6 = some (q, g) → V p l e R s m args below meth c D n0 s0 (aEnd D below args s h0 (.inr (some (.long q)), g)) h 137 [(2, false, va_rf a2), (3, false, .int a3), (4, true, .long a4), (6, false, .int a6)] []) (hf : fX2_consensus_p163 D K137 h a2 a3 a4 a6 = some (q, g)) : V p l e R s m args below meth c D n0 s0 (aEnd D below args s h0 (.inr (some (.long q)), g)) h 163 [(2, false, va_rf a2), (3, false, .int a3), (4, true, .long a4), (6, false, .int a6)] [] := by
  have C := X.1
  unfold fX2_consensus_p163 at hf
  refine v_iinc (pc := 163) (j := 3) (v := (a6 + 1)) (lv' := [(6, false, .int (a6 + 1)), (2, false, va_rf a2), (3, false, .int a3), (4, true, .long a4)]) C dX2_consensus_163 rfl rfl (by decide) rfl ?_
  refine v_goto (pc := 166) (tgt := 137) C dX2_consensus_166 rfl ?_
  exact V.sub [1, 2, 3, 0] rfl (k137 _ _ _ _ _ _ _ hf)
def fX2_consensus_p169 (D : aD) (h : aH) (a4 : Int64) : Option (Int64 × aH) :=
  some (a4, h)
theorem vX2_consensus_p169 {h : aH} {a4 : Int64} {q : Int64} {g : aH} (X : aX p l R s m meth c D n0 s0 yX2_consensus cX2_consensus 5 117 9 (some .long) h0) (hf : fX2_consensus_p169 D h a4 = some (q, g)) : V p l e R s m args below meth c D n0 s0 (aEnd D below args s h0 (.inr (some (.long q)), g)) h 169 [(4, true, .long a4)] [] := by
  have C := X.1
  unfold fX2_consensus_p169 at hf
  refine v_lload (pc := 169) (j := 0) C dX2_consensus_169 rfl ?_
  cases hf
  exact v_lreturn (pc := 171) C X.2.1 X.2.2.1 X.2.2.2.1 rfl dX2_consensus_171
def fX2_consensus_p137 (D : aD) : Nat → aH → (Option Nat) → Int32 → Int64 → Int32 → Option (Int64 × aH)
  | 0, _, _, _, _, _ => none
  | n + 1, h, a2, a3, a4, a6 =>
  if (64 : Int32) ≤ a6 then
  (fX2_consensus_p169 D h a4)
  else
  ((eI h a2 a6).bind fun x1 =>
  if ((2 : Int32) * x1) ≤ a3 then
  (fX2_consensus_p163 D (fX2_consensus_p137 D n) h a2 a3 a4 a6)
  else
  ((some ((a4 ||| ((1 : Int64) <<< (a6.toInt64 &&& 63))))).bind fun x2 =>
  fX2_consensus_p163 D (fX2_consensus_p137 D n) h a2 a3 x2 a6))
theorem vX2_consensus_p137 (X : aX p l R s m meth c D n0 s0 yX2_consensus cX2_consensus 5 117 9 (some .long) h0) : ∀ (n : Nat) (h : aH) (a2 : Option Nat) (a3 : Int32) (a4 : Int64) (a6 : Int32) (q : Int64) (g : aH), fX2_consensus_p137 D n h a2 a3 a4 a6 = some (q, g) → V p l e R s m args below meth c D n0 s0 (aEnd D below args s h0 (.inr (some (.long q)), g)) h 137 [(2, false, va_rf a2), (3, false, .int a3), (4, true, .long a4), (6, false, .int a6)] [] := by
  have C := X.1
  intro n
  induction n with
  | zero =>
    intro _ _ _ _ _ _ _ hf
    rw [fX2_consensus_p137] at hf
    cases hf
  | succ n ih =>
    intro h a2 a3 a4 a6 q g hf
    rw [fX2_consensus_p137] at hf
    refine v_iload (pc := 137) (j := 3) C dX2_consensus_137 rfl ?_
    refine v_bipush (pc := 139) (v := (64 : Int32)) C dX2_consensus_139 rfl ?_
    refine v_icmp_ge (pc := 141) (tgt := 169) C dX2_consensus_141 rfl (fun hc => ?_) (fun hc => ?_)
    · rw [if_pos hc] at hf
      exact V.sub [2] rfl (vX2_consensus_p169 X hf)
    · rw [if_neg hc] at hf
      refine v_iconst (pc := 144) (v := (2 : Int32)) C dX2_consensus_144 rfl ?_
      refine v_aload_n (pc := 145) (j := 0) C dX2_consensus_145 rfl rfl ?_
      refine v_iload (pc := 146) (j := 3) C dX2_consensus_146 rfl ?_
      obtain ⟨x1, ex1, hf⟩ := oB hf
      refine v_iaload (pc := 148) C ex1 dX2_consensus_148 ?_
      refine v_imul (pc := 149) C dX2_consensus_149 ?_
      refine v_iload_n (pc := 150) (j := 1) C dX2_consensus_150 rfl rfl ?_
      refine v_icmp_le (pc := 151) (tgt := 163) C dX2_consensus_151 rfl (fun hc => ?_) (fun hc => ?_)
      · rw [if_pos hc] at hf
        exact V.sub [0, 1, 2, 3] rfl (vX2_consensus_p163 X ih hf)
      · rw [if_neg hc] at hf
        refine v_lload (pc := 154) (j := 2) C dX2_consensus_154 rfl ?_
        refine v_lconst (pc := 156) (v := (1 : Int64)) C dX2_consensus_156 rfl ?_
        refine v_iload (pc := 157) (j := 3) C dX2_consensus_157 rfl ?_
        refine v_lshl (pc := 159) C dX2_consensus_159 ?_
        refine v_lor (pc := 160) C dX2_consensus_160 ?_
        obtain ⟨x2, ex2, hf⟩ := oB hf
        refine vst (Option.some.inj ex2) (fun z => .long z :: []) ?_
        refine v_lstore (pc := 161) (lv' := [(4, true, .long x2), (2, false, va_rf a2), (3, false, .int a3), (6, false, .int a6)]) C dX2_consensus_161 (by decide) rfl ?_
        exact V.sub [1, 2, 0, 3] rfl (vX2_consensus_p163 X ih hf)
def fX2_consensus_p131 (D : aD) (h : aH) (a2 : Option Nat) (a3 : Int32) : Option (Int64 × aH) :=
  fX2_consensus_p137 D FU h a2 a3 (0 : Int64) (0 : Int32)
theorem vX2_consensus_p131 {h : aH} {a2 : Option Nat} {a3 : Int32} {q : Int64} {g : aH} (X : aX p l R s m meth c D n0 s0 yX2_consensus cX2_consensus 5 117 9 (some .long) h0) (hf : fX2_consensus_p131 D h a2 a3 = some (q, g)) : V p l e R s m args below meth c D n0 s0 (aEnd D below args s h0 (.inr (some (.long q)), g)) h 131 [(2, false, va_rf a2), (3, false, .int a3)] [] := by
  have C := X.1
  unfold fX2_consensus_p131 at hf
  refine v_lconst (pc := 131) (v := (0 : Int64)) C dX2_consensus_131 rfl ?_
  refine v_lstore (pc := 132) (lv' := [(4, true, .long (0 : Int64)), (2, false, va_rf a2), (3, false, .int a3)]) C dX2_consensus_132 (by decide) rfl ?_
  refine v_iconst (pc := 134) (v := (0 : Int32)) C dX2_consensus_134 rfl ?_
  refine v_istore (pc := 135) (lv' := [(6, false, .int (0 : Int32)), (4, true, .long (0 : Int64)), (2, false, va_rf a2), (3, false, .int a3)]) C dX2_consensus_135 (by decide) rfl ?_
  exact V.sub [2, 3, 1, 0] rfl (vX2_consensus_p137 X _ _ _ _ _ _ _ _ hf)
def fX2_consensus_p30 (D : aD) : Nat → aH → (Option Nat) → Int32 → (Option Nat) → Int32 → Int32 → Option (Int64 × aH)
  | 0, _, _, _, _, _, _ => none
  | n + 1, h, a0, a1, a2, a3, a4 =>
  (gR h 1 11 a0).bind fun x1 =>
  (aIs h 15 x1).bind fun _ =>
  (fJ2_size D h x1).bind fun x3 =>
  if x3 ≤ a4 then
  (fX2_consensus_p131 D h a2 a3)
  else
  ((gR h 1 11 a0).bind fun x5 =>
  (aIs h 15 x5).bind fun _ =>
  (fJ2_get D h x5 a4).bind fun x7 =>
  (aCast h [100] x7).bind fun _ =>
  (eI h x7 (1 : Int32)).bind fun x10 =>
  if x10 = a1 then
  ((aIs h 1 a0).bind fun _ =>
  bnd2 (fX2_aligned D h a0 a4) fun x12 h13 =>
  (gR h13 1 12 a0).bind fun x14 =>
  (eL h13 x14 a4).bind fun x15 =>
  (eI h13 x12 (0 : Int32)).bind fun x16 =>
  (eI h13 x12 (1 : Int32)).bind fun x17 =>
  (fX2_shifted D h13 x15 x16 x17).bind fun x19 =>
  fX2_consensus_p94 D (fX2_consensus_p30 D n) FU h13 a0 a1 a2 a3 a4 x19 (0 : Int32))
  else
  (fX2_consensus_p125 D (fX2_consensus_p30 D n) h a0 a1 a2 a3 a4))
theorem vX2_consensus_p30 (X : aX p l R s m meth c D n0 s0 yX2_consensus cX2_consensus 5 117 9 (some .long) h0) : ∀ (n : Nat) (h : aH) (a0 : Option Nat) (a1 : Int32) (a2 : Option Nat) (a3 : Int32) (a4 : Int32) (q : Int64) (g : aH), fX2_consensus_p30 D n h a0 a1 a2 a3 a4 = some (q, g) → V p l e R s m args below meth c D n0 s0 (aEnd D below args s h0 (.inr (some (.long q)), g)) h 30 [(0, false, va_rf a0), (1, false, .int a1), (2, false, va_rf a2), (3, false, .int a3), (4, false, .int a4)] [] := by
  have C := X.1
  intro n
  induction n with
  | zero =>
    intro _ _ _ _ _ _ _ _ hf
    rw [fX2_consensus_p30] at hf
    cases hf
  | succ n ih =>
    intro h a0 a1 a2 a3 a4 q g hf
    rw [fX2_consensus_p30] at hf
    refine v_iload (pc := 30) (j := 4) C dX2_consensus_30 rfl ?_
    refine v_aload_n (pc := 32) (j := 0) C dX2_consensus_32 rfl rfl ?_
    obtain ⟨x1, ex1, hf⟩ := oB hf
    refine v_getF (pc := 33) C lk_X2_41 (gR_eq ex1) dX2_consensus_33 ?_
    obtain ⟨b2, eb2, hf⟩ := oB hf
    obtain ⟨rb2, _, kb2⟩ := aIs_eq eb2
    obtain ⟨x3, ex3, hf⟩ := oB hf
    refine v_call (pc := 36) (d_V (pc := 36) C (As := []) (rest := [.int a4]) rb2 kb2 nt_15 q2502 yi_J2_size_java_util_ArrayList yk_J2_size rfl (by decide) (by decide) (Nat.le_trans (aw_i aw_0) (by decide)) rfl (mJ2_size C.st ex3) dX2_consensus_36) ?_
    refine v_icmp_ge (pc := 39) (tgt := 131) C dX2_consensus_39 rfl (fun hc => ?_) (fun hc => ?_)
    · rw [if_pos hc] at hf
      exact V.sub [2, 3] rfl (vX2_consensus_p131 X hf)
    · rw [if_neg hc] at hf
      refine v_aload_n (pc := 42) (j := 0) C dX2_consensus_42 rfl rfl ?_
      obtain ⟨x5, ex5, hf⟩ := oB hf
      refine v_getF (pc := 43) C lk_X2_41 (gR_eq ex5) dX2_consensus_43 ?_
      refine v_iload (pc := 46) (j := 4) C dX2_consensus_46 rfl ?_
      obtain ⟨b6, eb6, hf⟩ := oB hf
      obtain ⟨rb6, _, kb6⟩ := aIs_eq eb6
      obtain ⟨x7, ex7, hf⟩ := oB hf
      refine v_call (pc := 48) (d_V (pc := 48) C (As := [.int a4]) (rest := []) rb6 kb6 nt_15 q2520 yi_J2_get_java_util_ArrayList yk_J2_get rfl (by decide) (by decide) (Nat.le_trans aw_0 (by decide)) rfl (mJ2_get C.st ex7) dX2_consensus_48) ?_
      obtain ⟨_, e9, hf⟩ := oB hf
      refine v_cast (pc := 51) C q2521 ct__I e9 dX2_consensus_51 ?_
      refine v_iconst (pc := 54) (v := (1 : Int32)) C dX2_consensus_54 rfl ?_
      obtain ⟨x10, ex10, hf⟩ := oB hf
      refine v_iaload (pc := 55) C ex10 dX2_consensus_55 ?_
      refine v_iload_n (pc := 56) (j := 1) C dX2_consensus_56 rfl rfl ?_
      refine v_icmp_eq (pc := 57) (tgt := 63) C dX2_consensus_57 rfl (fun hc => ?_) (fun hc => ?_)
      · rw [if_pos hc] at hf
        refine v_aload_n (pc := 63) (j := 0) C dX2_consensus_63 rfl rfl ?_
        refine v_iload (pc := 64) (j := 4) C dX2_consensus_64 rfl ?_
        obtain ⟨b11, eb11, hf⟩ := oB hf
        obtain ⟨rb11, _, kb11⟩ := aIs_eq eb11
        obtain ⟨x12, h13, ex12, hf⟩ := bnd2_eq hf
        refine v_call (pc := 66) (d_V (pc := 66) C (As := [.int a4]) (rest := []) rb11 kb11 nt_1 q2606 yi_X2_aligned_FigureSurveyModel yk_X2_aligned rfl (by decide) (by decide) (Nat.le_trans aw_0 (by decide)) rfl (mX2_aligned C.st ex12) dX2_consensus_66) ?_
        refine v_astore (pc := 69) (lv' := [(5, false, va_rf x12), (0, false, va_rf a0), (1, false, .int a1), (2, false, va_rf a2), (3, false, .int a3), (4, false, .int a4)]) C dX2_consensus_69 (by decide) rfl ?_
        refine v_aload_n (pc := 71) (j := 1) C dX2_consensus_71 rfl rfl ?_
        obtain ⟨x14, ex14, hf⟩ := oB hf
        refine v_getF (pc := 72) C lk_X2_44 (gR_eq ex14) dX2_consensus_72 ?_
        refine v_iload (pc := 75) (j := 5) C dX2_consensus_75 rfl ?_
        obtain ⟨x15, ex15, hf⟩ := oB hf
        refine v_laload (pc := 77) C ex15 dX2_consensus_77 ?_
        refine v_aload (pc := 78) (j := 0) C dX2_consensus_78 rfl ?_
        refine v_iconst (pc := 80) (v := (0 : Int32)) C dX2_consensus_80 rfl ?_
        obtain ⟨x16, ex16, hf⟩ := oB hf
        refine v_iaload (pc := 81) C ex16 dX2_consensus_81 ?_
        refine v_aload (pc := 82) (j := 0) C dX2_consensus_82 rfl ?_
        refine v_iconst (pc := 84) (v := (1 : Int32)) C dX2_consensus_84 rfl ?_
        obtain ⟨x17, ex17, hf⟩ := oB hf
        refine v_iaload (pc := 85) C ex17 dX2_consensus_85 ?_
        obtain ⟨x19, ex19, hf⟩ := oB hf
        refine v_call (pc := 86) (d_S (pc := 86) C (As := [.long x15, .int x16, .int x17]) (rest := []) q2610 q2611 yk_X2_shifted rfl (by decide) (by decide) (Nat.le_trans aw_0 (by decide)) rfl (mX2_shifted C.st ex19) dX2_consensus_86) ?_
        refine v_lstore (pc := 89) (lv' := [(6, true, .long x19), (5, false, va_rf x12), (0, false, va_rf a0), (1, false, .int a1), (2, false, va_rf a2), (3, false, .int a3), (4, false, .int a4)]) C dX2_consensus_89 (by decide) rfl ?_
        refine v_iconst (pc := 91) (v := (0 : Int32)) C dX2_consensus_91 rfl ?_
        refine v_istore (pc := 92) (lv' := [(8, false, .int (0 : Int32)), (6, true, .long x19), (5, false, va_rf x12), (0, false, va_rf a0), (1, false, .int a1), (2, false, va_rf a2), (3, false, .int a3), (4, false, .int a4)]) C dX2_consensus_92 (by decide) rfl ?_
        exact V.sub [3, 4, 5, 6, 7, 1, 0] rfl (vX2_consensus_p94 X ih _ _ _ _ _ _ _ _ _ _ _ hf)
      · rw [if_neg hc] at hf
        refine v_goto (pc := 60) (tgt := 125) C dX2_consensus_60 rfl ?_
        exact V.sub [0, 1, 2, 3, 4] rfl (vX2_consensus_p125 X ih hf)
def fX2_consensus (D : aD) (h : aH) (a0 : Option Nat) (a1 : Int32) : Option (Int64 × aH) :=
  (pF D h 1 0 a0 (.int (0 : Int32))).bind fun h1 =>
  (aIs h1 1 a0).bind fun _ =>
  (fX2_noFigure D h1 a0 a1).bind fun x3 =>
  if x3 = 0 then
  ((aMkA D h1 100 (64 : Int32) (.int 0)).bind fun h5 =>
  fX2_consensus_p30 D FU h5 a0 a1 (some h1.1) (0 : Int32) (0 : Int32))
  else
  ((aIs h1 1 a0).bind fun _ =>
  bnd2 (fX2_err D h1 a0 (1 : Int32)) fun x7 h8 =>
  some (x7.toInt64, h8))
theorem vX2_consensus {h : aH} {a0 : Option Nat} {a1 : Int32} {q : Int64} {g : aH} (X : aX p l R s m meth c D n0 s0 yX2_consensus cX2_consensus 5 117 9 (some .long) h0) (hf : fX2_consensus D h a0 a1 = some (q, g)) : V p l e R s m args below meth c D n0 s0 (aEnd D below args s h0 (.inr (some (.long q)), g)) h 0 [(0, false, va_rf a0), (1, false, .int a1)] [] := by
  have C := X.1
  unfold fX2_consensus at hf
  refine v_aload_n (pc := 0) (j := 0) C dX2_consensus_0 rfl rfl ?_
  refine v_iconst (pc := 1) (v := (0 : Int32)) C dX2_consensus_1 rfl ?_
  obtain ⟨h1, eh1, hf⟩ := oB hf
  refine v_putF (pc := 2) C lk_X2_69 tyX2 tyX2_ok nmX2 (tyX2_ok 0 (by decide)) rfl rfl eh1 dX2_consensus_2 ?_
  refine v_aload_n (pc := 5) (j := 0) C dX2_consensus_5 rfl rfl ?_
  refine v_iload_n (pc := 6) (j := 1) C dX2_consensus_6 rfl rfl ?_
  obtain ⟨b2, eb2, hf⟩ := oB hf
  obtain ⟨rb2, _, kb2⟩ := aIs_eq eb2
  obtain ⟨x3, ex3, hf⟩ := oB hf
  refine v_call (pc := 7) (d_V (pc := 7) C (As := [.int a1]) (rest := []) rb2 kb2 nt_1 q2560 yi_X2_noFigure_FigureSurveyModel yk_X2_noFigure rfl (by decide) (by decide) (Nat.le_trans aw_0 (by decide)) rfl (mX2_noFigure C.st ex3) dX2_consensus_7) ?_
  refine v_if_eq (pc := 10) (tgt := 20) C dX2_consensus_10 rfl (fun hc => ?_) (fun hc => ?_)
  · rw [if_pos hc] at hf
    refine v_bipush (pc := 20) (v := (64 : Int32)) C dX2_consensus_20 rfl ?_
    obtain ⟨h5, eh5, hf⟩ := oB hf
    refine v_newarray (pc := 22) (t := 100) (v := .int 0) C q169 rfl rfl (by decide) (by decide) rfl eh5 dX2_consensus_22 ?_
    refine v_astore_n (pc := 24) (lv' := [(2, false, va_rf (some h1.1)), (0, false, va_rf a0), (1, false, .int a1)]) C dX2_consensus_24 rfl (by decide) rfl ?_
    refine v_iconst (pc := 25) (v := (0 : Int32)) C dX2_consensus_25 rfl ?_
    refine v_istore_n (pc := 26) (lv' := [(3, false, .int (0 : Int32)), (2, false, va_rf (some h1.1)), (0, false, va_rf a0), (1, false, .int a1)]) C dX2_consensus_26 rfl (by decide) rfl ?_
    refine v_iconst (pc := 27) (v := (0 : Int32)) C dX2_consensus_27 rfl ?_
    refine v_istore (pc := 28) (lv' := [(4, false, .int (0 : Int32)), (3, false, .int (0 : Int32)), (2, false, va_rf (some h1.1)), (0, false, va_rf a0), (1, false, .int a1)]) C dX2_consensus_28 (by decide) rfl ?_
    exact V.sub [3, 4, 2, 1, 0] rfl (vX2_consensus_p30 X _ _ _ _ _ _ _ _ _ hf)
  · rw [if_neg hc] at hf
    refine v_aload_n (pc := 13) (j := 0) C dX2_consensus_13 rfl rfl ?_
    refine v_iconst (pc := 14) (v := (1 : Int32)) C dX2_consensus_14 rfl ?_
    obtain ⟨b6, eb6, hf⟩ := oB hf
    obtain ⟨rb6, _, kb6⟩ := aIs_eq eb6
    obtain ⟨x7, h8, ex7, hf⟩ := bnd2_eq hf
    refine v_call (pc := 15) (d_V (pc := 15) C (As := [.int (1 : Int32)]) (rest := []) rb6 kb6 nt_1 q2498 yi_X2_err_FigureSurveyModel yk_X2_err rfl (by decide) (by decide) (Nat.le_trans aw_0 (by decide)) rfl (mX2_err C.st ex7) dX2_consensus_15) ?_
    refine v_i2l (pc := 18) C dX2_consensus_18 ?_
    cases hf
    exact v_lreturn (pc := 19) C X.2.1 X.2.2.1 X.2.2.2.1 rfl dX2_consensus_19
theorem mX2_consensus {l : Launch} {D : aD} {h : aH} {a0 : Option Nat} {a1 : Int32} {q : Int64} {g : aH} (hst : l.stackTraces = false) (hf : fX2_consensus D h a0 a1 = some (q, g)) : aM l D yX2_consensus cX2_consensus 9 (some .long) 5 117 [va_rf a0, .int a1] h (.inr (some (.long q)), g) :=
  aM.ofX [(false, va_rf a0), (false, .int a1)] rfl (ap_r (ap_c rfl ap_0)) (by decide +kernel) hst (al_of (aw_r (aw_i aw_0)) (by decide)) fun p e s m args below meth c X => V.sub (lv' := [(0, false, va_rf a0), (1, false, .int a1)]) [0, 1] rfl (vX2_consensus X hf)
def fX2_doubt_p64 (D : aD) (K7 : aH → (Option Nat) → Int32 → Int32 → Int32 → Int32 → Option (Int32 × aH)) (h : aH) (a0 : Option Nat) (a1 : Int32) (a2 : Int32) (a3 : Int32) (a4 : Int32) : Option (Int32 × aH) :=
  K7 h a0 a1 a2 a3 (a4 + 1)
theorem vX2_doubt_p64 {h : aH} {K7 : aH → (Option Nat) → Int32 → Int32 → Int32 → Int32 → Option (Int32 × aH)} {a0 : Option Nat} {a1 : Int32} {a2 : Int32} {a3 : Int32} {a4 : Int32} {q : Int32} {g : aH} (X : aX p l R s m meth c D n0 s0 yX2_doubt cX2_doubt 6 140 5 (some .int) h0) (k7 : ∀ (h : aH) (a0 : Option Nat) (a1 : Int32) (a2 : Int32) (a3 : Int32) (a4 : Int32) (q : Int32) (g : aH), K7 h a0 a1 a2 a3 a4 = some (q, g) → V p l e R s m args below meth c D n0 s0 (aEnd D below args s h0 (.inr (some (.int q)), g)) h 7 [(0, false, va_rf a0), (1, false, .int a1), (2, false, .int a2), (3, false, .int a3), (4, false, .int a4)] []) (hf : fX2_doubt_p64 D K7 h a0 a1 a2 a3 a4 = some (q, g)) : V p l e R s m args below meth c D n0 s0 (aEnd D below args s h0 (.inr (some (.int q)), g)) h 64 [(0, false, va_rf a0), (1, false, .int a1), (2, false, .int a2), (3, false, .int a3), (4, false, .int a4)] [] := by
  have C := X.1
  unfold fX2_doubt_p64 at hf
  refine v_iinc (pc := 64) (j := 4) (v := (a4 + 1)) (lv' := [(4, false, .int (a4 + 1)), (0, false, va_rf a0), (1, false, .int a1), (2, false, .int a2), (3, false, .int a3)]) C dX2_doubt_64 rfl rfl (by decide) rfl ?_
  refine v_goto (pc := 67) (tgt := 7) C dX2_doubt_67 rfl ?_
  exact V.sub [1, 2, 3, 4, 0] rfl (k7 _ _ _ _ _ _ _ _ hf)
def fX2_doubt_p63 (D : aD) (K7 : aH → (Option Nat) → Int32 → Int32 → Int32 → Int32 → Option (Int32 × aH)) (h : aH) (a0 : Option Nat) (a1 : Int32) (a2 : Int32) (a4 : Int32) (t0 : Int32) : Option (Int32 × aH) :=
  fX2_doubt_p64 D K7 h a0 a1 a2 t0 a4
theorem vX2_doubt_p63 {h : aH} {K7 : aH → (Option Nat) → Int32 → Int32 → Int32 → Int32 → Option (Int32 × aH)} {a0 : Option Nat} {a1 : Int32} {a2 : Int32} {a4 : Int32} {t0 : Int32} {q : Int32} {g : aH} (X : aX p l R s m meth c D n0 s0 yX2_doubt cX2_doubt 6 140 5 (some .int) h0) (k7 : ∀ (h : aH) (a0 : Option Nat) (a1 : Int32) (a2 : Int32) (a3 : Int32) (a4 : Int32) (q : Int32) (g : aH), K7 h a0 a1 a2 a3 a4 = some (q, g) → V p l e R s m args below meth c D n0 s0 (aEnd D below args s h0 (.inr (some (.int q)), g)) h 7 [(0, false, va_rf a0), (1, false, .int a1), (2, false, .int a2), (3, false, .int a3), (4, false, .int a4)] []) (hf : fX2_doubt_p63 D K7 h a0 a1 a2 a4 t0 = some (q, g)) : V p l e R s m args below meth c D n0 s0 (aEnd D below args s h0 (.inr (some (.int q)), g)) h 63 [(0, false, va_rf a0), (1, false, .int a1), (2, false, .int a2), (4, false, .int a4)] [.int t0] := by
  have C := X.1
  unfold fX2_doubt_p63 at hf
  refine v_istore_n (pc := 63) (lv' := [(3, false, .int t0), (0, false, va_rf a0), (1, false, .int a1), (2, false, .int a2), (4, false, .int a4)]) C dX2_doubt_63 rfl (by decide) rfl ?_
  exact V.sub [1, 2, 3, 0, 4] rfl (vX2_doubt_p64 X k7 hf)
def fX2_doubt_p97 (D : aD) (h : aH) (t0 : Int32) (t1 : Int32) : Option (Int32 × aH) :=
  some ((t0 + t1), h)
theorem vX2_doubt_p97 {h : aH} {t0 : Int32} {t1 : Int32} {q : Int32} {g : aH} (X : aX p l R s m meth c D n0 s0 yX2_doubt cX2_doubt 6 140 5 (some .int) h0) (hf : fX2_doubt_p97 D h t0 t1 = some (q, g)) : V p l e R s m args below meth c D n0 s0 (aEnd D below args s h0 (.inr (some (.int q)), g)) h 97 [] [.int t1, .int t0] := by
  have C := X.1
  unfold fX2_doubt_p97 at hf
  refine v_iadd (pc := 97) C dX2_doubt_97 ?_
  cases hf
  exact v_ireturn (pc := 98) C X.2.1 X.2.2.1 X.2.2.2.1 rfl dX2_doubt_98
def fX2_doubt_p70 (D : aD) (h : aH) (a0 : Option Nat) (a1 : Int32) (a2 : Int32) (a3 : Int32) : Option (Int32 × aH) :=
  (gR h 1 9 a0).bind fun x1 =>
  (aIs h 15 x1).bind fun _ =>
  (fJ2_get D h x1 a1).bind fun x3 =>
  (aCast h [100] x3).bind fun _ =>
  (eI h x3 (1 : Int32)).bind fun x6 =>
  fX2_doubt_p97 D h x6 (if a2 < (2 : Int32) then (0 : Int32) else (if a3 = 0 then (0 : Int32) else (5 : Int32)))
theorem vX2_doubt_p70 {h : aH} {a0 : Option Nat} {a1 : Int32} {a2 : Int32} {a3 : Int32} {q : Int32} {g : aH} (X : aX p l R s m meth c D n0 s0 yX2_doubt cX2_doubt 6 140 5 (some .int) h0) (hf : fX2_doubt_p70 D h a0 a1 a2 a3 = some (q, g)) : V p l e R s m args below meth c D n0 s0 (aEnd D below args s h0 (.inr (some (.int q)), g)) h 70 [(0, false, va_rf a0), (1, false, .int a1), (2, false, .int a2), (3, false, .int a3)] [] := by
  have C := X.1
  unfold fX2_doubt_p70 at hf
  refine v_aload_n (pc := 70) (j := 0) C dX2_doubt_70 rfl rfl ?_
  obtain ⟨x1, ex1, hf⟩ := oB hf
  refine v_getF (pc := 71) C lk_X2_33 (gR_eq ex1) dX2_doubt_71 ?_
  refine v_iload_n (pc := 74) (j := 1) C dX2_doubt_74 rfl rfl ?_
  obtain ⟨b2, eb2, hf⟩ := oB hf
  obtain ⟨rb2, _, kb2⟩ := aIs_eq eb2
  obtain ⟨x3, ex3, hf⟩ := oB hf
  refine v_call (pc := 75) (d_V (pc := 75) C (As := [.int a1]) (rest := []) rb2 kb2 nt_15 q2520 yi_J2_get_java_util_ArrayList yk_J2_get rfl (by decide) (by decide) (Nat.le_trans aw_0 (by decide)) rfl (mJ2_get C.st ex3) dX2_doubt_75) ?_
  obtain ⟨_, e5, hf⟩ := oB hf
  refine v_cast (pc := 78) C q2521 ct__I e5 dX2_doubt_78 ?_
  refine v_iconst (pc := 81) (v := (1 : Int32)) C dX2_doubt_81 rfl ?_
  obtain ⟨x6, ex6, hf⟩ := oB hf
  refine v_iaload (pc := 82) C ex6 dX2_doubt_82 ?_
  refine v_iload_n (pc := 83) (j := 2) C dX2_doubt_83 rfl rfl ?_
  refine v_iconst (pc := 84) (v := (2 : Int32)) C dX2_doubt_84 rfl ?_
  refine v_icmp_lt (pc := 85) (tgt := 96) C dX2_doubt_85 rfl (fun hc => ?_) (fun hc => ?_)
  · simp only [if_pos hc] at hf
    refine v_iconst (pc := 96) (v := (0 : Int32)) C dX2_doubt_96 rfl ?_
    exact V.sub [] rfl (vX2_doubt_p97 X hf)
  · simp only [if_neg hc] at hf
    refine v_iload_n (pc := 88) (j := 3) C dX2_doubt_88 rfl rfl ?_
    refine v_if_eq (pc := 89) (tgt := 96) C dX2_doubt_89 rfl (fun hc => ?_) (fun hc => ?_)
    · simp only [if_pos hc] at hf
      refine v_iconst (pc := 96) (v := (0 : Int32)) C dX2_doubt_96 rfl ?_
      exact V.sub [] rfl (vX2_doubt_p97 X hf)
    · simp only [if_neg hc] at hf
      refine v_iconst (pc := 92) (v := (5 : Int32)) C dX2_doubt_92 rfl ?_
      refine v_goto (pc := 93) (tgt := 97) C dX2_doubt_93 rfl ?_
      exact V.sub [] rfl (vX2_doubt_p97 X hf)
def fX2_doubt_p7 (D : aD) : Nat → aH → (Option Nat) → Int32 → Int32 → Int32 → Int32 → Option (Int32 × aH)
  | 0, _, _, _, _, _, _ => none
  | n + 1, h, a0, a1, a2, a3, a4 =>
  (gR h 1 11 a0).bind fun x1 =>
  (aIs h 15 x1).bind fun _ =>
  (fJ2_size D h x1).bind fun x3 =>
  if x3 ≤ a4 then
  (fX2_doubt_p70 D h a0 a1 a2 a3)
  else
  (if a3 = 0 then
  (fX2_doubt_p70 D h a0 a1 a2 a3)
  else
  ((gR h 1 11 a0).bind fun x5 =>
  (aIs h 15 x5).bind fun _ =>
  (fJ2_get D h x5 a4).bind fun x7 =>
  (aCast h [100] x7).bind fun _ =>
  (eI h x7 (1 : Int32)).bind fun x10 =>
  if x10 = a1 then
  ((aIs h 1 a0).bind fun _ =>
  bnd2 (fX2_score D h a0 a4) fun x12 h13 =>
  fX2_doubt_p63 D (fX2_doubt_p7 D n) h13 a0 a1 (a2 + 1) a4 (if x12 < (95 : Int32) then (0 : Int32) else (1 : Int32)))
  else
  (fX2_doubt_p64 D (fX2_doubt_p7 D n) h a0 a1 a2 a3 a4)))
theorem vX2_doubt_p7 (X : aX p l R s m meth c D n0 s0 yX2_doubt cX2_doubt 6 140 5 (some .int) h0) : ∀ (n : Nat) (h : aH) (a0 : Option Nat) (a1 : Int32) (a2 : Int32) (a3 : Int32) (a4 : Int32) (q : Int32) (g : aH), fX2_doubt_p7 D n h a0 a1 a2 a3 a4 = some (q, g) → V p l e R s m args below meth c D n0 s0 (aEnd D below args s h0 (.inr (some (.int q)), g)) h 7 [(0, false, va_rf a0), (1, false, .int a1), (2, false, .int a2), (3, false, .int a3), (4, false, .int a4)] [] := by
  have C := X.1
  intro n
  induction n with
  | zero =>
    intro _ _ _ _ _ _ _ _ hf
    rw [fX2_doubt_p7] at hf
    cases hf
  | succ n ih =>
    intro h a0 a1 a2 a3 a4 q g hf
    rw [fX2_doubt_p7] at hf
    refine v_iload (pc := 7) (j := 4) C dX2_doubt_7 rfl ?_
    refine v_aload_n (pc := 9) (j := 0) C dX2_doubt_9 rfl rfl ?_
    obtain ⟨x1, ex1, hf⟩ := oB hf
    refine v_getF (pc := 10) C lk_X2_41 (gR_eq ex1) dX2_doubt_10 ?_
    obtain ⟨b2, eb2, hf⟩ := oB hf
    obtain ⟨rb2, _, kb2⟩ := aIs_eq eb2
    obtain ⟨x3, ex3, hf⟩ := oB hf
    refine v_call (pc := 13) (d_V (pc := 13) C (As := []) (rest := [.int a4]) rb2 kb2 nt_15 q2502 yi_J2_size_java_util_ArrayList yk_J2_size rfl (by decide) (by decide) (Nat.le_trans (aw_i aw_0) (by decide)) rfl (mJ2_size C.st ex3) dX2_doubt_13) ?_
    refine v_icmp_ge (pc := 16) (tgt := 70) C dX2_doubt_16 rfl (fun hc => ?_) (fun hc => ?_)
    · rw [if_pos hc] at hf
      exact V.sub [0, 1, 2, 3] rfl (vX2_doubt_p70 X hf)
    · rw [if_neg hc] at hf
      refine v_iload_n (pc := 19) (j := 3) C dX2_doubt_19 rfl rfl ?_
      refine v_if_eq (pc := 20) (tgt := 70) C dX2_doubt_20 rfl (fun hc => ?_) (fun hc => ?_)
      · rw [if_pos hc] at hf
        exact V.sub [0, 1, 2, 3] rfl (vX2_doubt_p70 X hf)
      · rw [if_neg hc] at hf
        refine v_aload_n (pc := 23) (j := 0) C dX2_doubt_23 rfl rfl ?_
        obtain ⟨x5, ex5, hf⟩ := oB hf
        refine v_getF (pc := 24) C lk_X2_41 (gR_eq ex5) dX2_doubt_24 ?_
        refine v_iload (pc := 27) (j := 4) C dX2_doubt_27 rfl ?_
        obtain ⟨b6, eb6, hf⟩ := oB hf
        obtain ⟨rb6, _, kb6⟩ := aIs_eq eb6
        obtain ⟨x7, ex7, hf⟩ := oB hf
        refine v_call (pc := 29) (d_V (pc := 29) C (As := [.int a4]) (rest := []) rb6 kb6 nt_15 q2520 yi_J2_get_java_util_ArrayList yk_J2_get rfl (by decide) (by decide) (Nat.le_trans aw_0 (by decide)) rfl (mJ2_get C.st ex7) dX2_doubt_29) ?_
        obtain ⟨_, e9, hf⟩ := oB hf
        refine v_cast (pc := 32) C q2521 ct__I e9 dX2_doubt_32 ?_
        refine v_iconst (pc := 35) (v := (1 : Int32)) C dX2_doubt_35 rfl ?_
        obtain ⟨x10, ex10, hf⟩ := oB hf
        refine v_iaload (pc := 36) C ex10 dX2_doubt_36 ?_
        refine v_iload_n (pc := 37) (j := 1) C dX2_doubt_37 rfl rfl ?_
        refine v_icmp_eq (pc := 38) (tgt := 44) C dX2_doubt_38 rfl (fun hc => ?_) (fun hc => ?_)
        · rw [if_pos hc] at hf
          refine v_iinc (pc := 44) (j := 2) (v := (a2 + 1)) (lv' := [(2, false, .int (a2 + 1)), (0, false, va_rf a0), (1, false, .int a1), (3, false, .int a3), (4, false, .int a4)]) C dX2_doubt_44 rfl rfl (by decide) rfl ?_
          refine v_aload_n (pc := 47) (j := 1) C dX2_doubt_47 rfl rfl ?_
          refine v_iload (pc := 48) (j := 4) C dX2_doubt_48 rfl ?_
          obtain ⟨b11, eb11, hf⟩ := oB hf
          obtain ⟨rb11, _, kb11⟩ := aIs_eq eb11
          obtain ⟨x12, h13, ex12, hf⟩ := bnd2_eq hf
          refine v_call (pc := 50) (d_V (pc := 50) C (As := [.int a4]) (rest := []) rb11 kb11 nt_1 q2617 yi_X2_score_FigureSurveyModel yk_X2_score rfl (by decide) (by decide) (Nat.le_trans aw_0 (by decide)) rfl (mX2_score C.st ex12) dX2_doubt_50) ?_
          refine v_bipush (pc := 53) (v := (95 : Int32)) C dX2_doubt_53 rfl ?_
          refine v_icmp_lt (pc := 55) (tgt := 62) C dX2_doubt_55 rfl (fun hc => ?_) (fun hc => ?_)
          · simp only [if_pos hc] at hf
            refine v_iconst (pc := 62) (v := (0 : Int32)) C dX2_doubt_62 rfl ?_
            exact V.sub [1, 2, 0, 4] rfl (vX2_doubt_p63 X ih hf)
          · simp only [if_neg hc] at hf
            refine v_iconst (pc := 58) (v := (1 : Int32)) C dX2_doubt_58 rfl ?_
            refine v_goto (pc := 59) (tgt := 63) C dX2_doubt_59 rfl ?_
            exact V.sub [1, 2, 0, 4] rfl (vX2_doubt_p63 X ih hf)
        · rw [if_neg hc] at hf
          refine v_goto (pc := 41) (tgt := 64) C dX2_doubt_41 rfl ?_
          exact V.sub [0, 1, 2, 3, 4] rfl (vX2_doubt_p64 X ih hf)
def fX2_doubt (D : aD) (h : aH) (a0 : Option Nat) (a1 : Int32) : Option (Int32 × aH) :=
  fX2_doubt_p7 D FU h a0 a1 (0 : Int32) (1 : Int32) (0 : Int32)
theorem vX2_doubt {h : aH} {a0 : Option Nat} {a1 : Int32} {q : Int32} {g : aH} (X : aX p l R s m meth c D n0 s0 yX2_doubt cX2_doubt 6 140 5 (some .int) h0) (hf : fX2_doubt D h a0 a1 = some (q, g)) : V p l e R s m args below meth c D n0 s0 (aEnd D below args s h0 (.inr (some (.int q)), g)) h 0 [(0, false, va_rf a0), (1, false, .int a1)] [] := by
  have C := X.1
  unfold fX2_doubt at hf
  refine v_iconst (pc := 0) (v := (0 : Int32)) C dX2_doubt_0 rfl ?_
  refine v_istore_n (pc := 1) (lv' := [(2, false, .int (0 : Int32)), (0, false, va_rf a0), (1, false, .int a1)]) C dX2_doubt_1 rfl (by decide) rfl ?_
  refine v_iconst (pc := 2) (v := (1 : Int32)) C dX2_doubt_2 rfl ?_
  refine v_istore_n (pc := 3) (lv' := [(3, false, .int (1 : Int32)), (2, false, .int (0 : Int32)), (0, false, va_rf a0), (1, false, .int a1)]) C dX2_doubt_3 rfl (by decide) rfl ?_
  refine v_iconst (pc := 4) (v := (0 : Int32)) C dX2_doubt_4 rfl ?_
  refine v_istore (pc := 5) (lv' := [(4, false, .int (0 : Int32)), (3, false, .int (1 : Int32)), (2, false, .int (0 : Int32)), (0, false, va_rf a0), (1, false, .int a1)]) C dX2_doubt_5 (by decide) rfl ?_
  exact V.sub [3, 4, 2, 1, 0] rfl (vX2_doubt_p7 X _ _ _ _ _ _ _ _ _ hf)
theorem mX2_doubt {l : Launch} {D : aD} {h : aH} {a0 : Option Nat} {a1 : Int32} {q : Int32} {g : aH} (hst : l.stackTraces = false) (hf : fX2_doubt D h a0 a1 = some (q, g)) : aM l D yX2_doubt cX2_doubt 5 (some .int) 6 140 [va_rf a0, .int a1] h (.inr (some (.int q)), g) :=
  aM.ofX [(false, va_rf a0), (false, .int a1)] rfl (ap_r (ap_c rfl ap_0)) (by decide +kernel) hst (al_of (aw_r (aw_i aw_0)) (by decide)) fun p e s m args below meth c X => V.sub (lv' := [(0, false, va_rf a0), (1, false, .int a1)]) [0, 1] rfl (vX2_doubt X hf)
def fX2_mark (D : aD) (h : aH) (a0 : Option Nat) (a1 : Int32) (a2 : Int32) : Option (Int32 × aH) :=
  (pF D h 1 0 a0 (.int (0 : Int32))).bind fun h1 =>
  (aIs h1 1 a0).bind fun _ =>
  (fX2_noFigure D h1 a0 a1).bind fun x3 =>
  if x3 = 0 then
  ((fX2_in D h1 a2 (1 : Int32) (9 : Int32)).bind fun x6 =>
  if x6 = 0 then
  ((aIs h1 1 a0).bind fun _ =>
  bnd2 (fX2_err D h1 a0 (2 : Int32)) fun x19 h20 =>
  some (x19, h20))
  else
  ((gR h1 1 9 a0).bind fun x8 =>
  (aIs h1 15 x8).bind fun _ =>
  (fJ2_get D h1 x8 a1).bind fun x10 =>
  (aCast h1 [100] x10).bind fun _ =>
  (eI h1 x10 (1 : Int32)).bind fun x13 =>
  (sF D h1 100 x10 (1 : Int32) (.int (x13 + a2))).bind fun h14 =>
  (aIs h14 1 a0).bind fun _ =>
  bnd2 (fX2_doubt D h14 a0 a1) fun x16 h17 =>
  some (x16, h17)))
  else
  ((aIs h1 1 a0).bind fun _ =>
  bnd2 (fX2_err D h1 a0 (1 : Int32)) fun x22 h23 =>
  some (x22, h23))
theorem vX2_mark {h : aH} {a0 : Option Nat} {a1 : Int32} {a2 : Int32} {q : Int32} {g : aH} (X : aX p l R s m meth c D n0 s0 yX2_mark cX2_mark 7 164 3 (some .int) h0) (hf : fX2_mark D h a0 a1 a2 = some (q, g)) : V p l e R s m args below meth c D n0 s0 (aEnd D below args s h0 (.inr (some (.int q)), g)) h 0 [(0, false, va_rf a0), (1, false, .int a1), (2, false, .int a2)] [] := by
  have C := X.1
  unfold fX2_mark at hf
  refine v_aload_n (pc := 0) (j := 0) C dX2_mark_0 rfl rfl ?_
  refine v_iconst (pc := 1) (v := (0 : Int32)) C dX2_mark_1 rfl ?_
  obtain ⟨h1, eh1, hf⟩ := oB hf
  refine v_putF (pc := 2) C lk_X2_69 tyX2 tyX2_ok nmX2 (tyX2_ok 0 (by decide)) rfl rfl eh1 dX2_mark_2 ?_
  refine v_aload_n (pc := 5) (j := 0) C dX2_mark_5 rfl rfl ?_
  refine v_iload_n (pc := 6) (j := 1) C dX2_mark_6 rfl rfl ?_
  obtain ⟨b2, eb2, hf⟩ := oB hf
  obtain ⟨rb2, _, kb2⟩ := aIs_eq eb2
  obtain ⟨x3, ex3, hf⟩ := oB hf
  refine v_call (pc := 7) (d_V (pc := 7) C (As := [.int a1]) (rest := []) rb2 kb2 nt_1 q2560 yi_X2_noFigure_FigureSurveyModel yk_X2_noFigure rfl (by decide) (by decide) (Nat.le_trans aw_0 (by decide)) rfl (mX2_noFigure C.st ex3) dX2_mark_7) ?_
  refine v_if_eq (pc := 10) (tgt := 19) C dX2_mark_10 rfl (fun hc => ?_) (fun hc => ?_)
  · rw [if_pos hc] at hf
    refine v_iload_n (pc := 19) (j := 2) C dX2_mark_19 rfl rfl ?_
    refine v_iconst (pc := 20) (v := (1 : Int32)) C dX2_mark_20 rfl ?_
    refine v_bipush (pc := 21) (v := (9 : Int32)) C dX2_mark_21 rfl ?_
    obtain ⟨x6, ex6, hf⟩ := oB hf
    refine v_call (pc := 23) (d_S (pc := 23) C (As := [.int a2, .int (1 : Int32), .int (9 : Int32)]) (rest := []) q2495 q2496 yk_X2_in rfl (by decide) (by decide) (Nat.le_trans aw_0 (by decide)) rfl (mX2_in C.st ex6) dX2_mark_23) ?_
    refine v_if_ne (pc := 26) (tgt := 35) C dX2_mark_26 rfl (fun hc => ?_) (fun hc => ?_)
    · rw [if_neg hc] at hf
      refine v_aload_n (pc := 35) (j := 0) C dX2_mark_35 rfl rfl ?_
      obtain ⟨x8, ex8, hf⟩ := oB hf
      refine v_getF (pc := 36) C lk_X2_33 (gR_eq ex8) dX2_mark_36 ?_
      refine v_iload_n (pc := 39) (j := 1) C dX2_mark_39 rfl rfl ?_
      obtain ⟨b9, eb9, hf⟩ := oB hf
      obtain ⟨rb9, _, kb9⟩ := aIs_eq eb9
      obtain ⟨x10, ex10, hf⟩ := oB hf
      refine v_call (pc := 40) (d_V (pc := 40) C (As := [.int a1]) (rest := []) rb9 kb9 nt_15 q2520 yi_J2_get_java_util_ArrayList yk_J2_get rfl (by decide) (by decide) (Nat.le_trans aw_0 (by decide)) rfl (mJ2_get C.st ex10) dX2_mark_40) ?_
      obtain ⟨_, e12, hf⟩ := oB hf
      refine v_cast (pc := 43) C q2521 ct__I e12 dX2_mark_43 ?_
      refine v_iconst (pc := 46) (v := (1 : Int32)) C dX2_mark_46 rfl ?_
      refine v_dup2_11 (pc := 47) C dX2_mark_47 rfl (va_rfc _) ?_
      obtain ⟨x13, ex13, hf⟩ := oB hf
      refine v_iaload (pc := 48) C ex13 dX2_mark_48 ?_
      refine v_iload_n (pc := 49) (j := 2) C dX2_mark_49 rfl rfl ?_
      refine v_iadd (pc := 50) C dX2_mark_50 ?_
      obtain ⟨h14, eh14, hf⟩ := oB hf
      refine v_iastore (pc := 51) C eh14 dX2_mark_51 ?_
      refine v_aload_n (pc := 52) (j := 0) C dX2_mark_52 rfl rfl ?_
      refine v_iload_n (pc := 53) (j := 1) C dX2_mark_53 rfl rfl ?_
      obtain ⟨b15, eb15, hf⟩ := oB hf
      obtain ⟨rb15, _, kb15⟩ := aIs_eq eb15
      obtain ⟨x16, h17, ex16, hf⟩ := bnd2_eq hf
      refine v_call (pc := 54) (d_V (pc := 54) C (As := [.int a1]) (rest := []) rb15 kb15 nt_1 q2633 yi_X2_doubt_FigureSurveyModel yk_X2_doubt rfl (by decide) (by decide) (Nat.le_trans aw_0 (by decide)) rfl (mX2_doubt C.st ex16) dX2_mark_54) ?_
      cases hf
      exact v_ireturn (pc := 57) C X.2.1 X.2.2.1 X.2.2.2.1 rfl dX2_mark_57
    · rw [if_pos (Decidable.of_not_not hc)] at hf
      refine v_aload_n (pc := 29) (j := 0) C dX2_mark_29 rfl rfl ?_
      refine v_iconst (pc := 30) (v := (2 : Int32)) C dX2_mark_30 rfl ?_
      obtain ⟨b18, eb18, hf⟩ := oB hf
      obtain ⟨rb18, _, kb18⟩ := aIs_eq eb18
      obtain ⟨x19, h20, ex19, hf⟩ := bnd2_eq hf
      refine v_call (pc := 31) (d_V (pc := 31) C (As := [.int (2 : Int32)]) (rest := []) rb18 kb18 nt_1 q2498 yi_X2_err_FigureSurveyModel yk_X2_err rfl (by decide) (by decide) (Nat.le_trans aw_0 (by decide)) rfl (mX2_err C.st ex19) dX2_mark_31) ?_
      cases hf
      exact v_ireturn (pc := 34) C X.2.1 X.2.2.1 X.2.2.2.1 rfl dX2_mark_34
  · rw [if_neg hc] at hf
    refine v_aload_n (pc := 13) (j := 0) C dX2_mark_13 rfl rfl ?_
    refine v_iconst (pc := 14) (v := (1 : Int32)) C dX2_mark_14 rfl ?_
    obtain ⟨b21, eb21, hf⟩ := oB hf
    obtain ⟨rb21, _, kb21⟩ := aIs_eq eb21
    obtain ⟨x22, h23, ex22, hf⟩ := bnd2_eq hf
    refine v_call (pc := 15) (d_V (pc := 15) C (As := [.int (1 : Int32)]) (rest := []) rb21 kb21 nt_1 q2498 yi_X2_err_FigureSurveyModel yk_X2_err rfl (by decide) (by decide) (Nat.le_trans aw_0 (by decide)) rfl (mX2_err C.st ex22) dX2_mark_15) ?_
    cases hf
    exact v_ireturn (pc := 18) C X.2.1 X.2.2.1 X.2.2.2.1 rfl dX2_mark_18
theorem mX2_mark {l : Launch} {D : aD} {h : aH} {a0 : Option Nat} {a1 : Int32} {a2 : Int32} {q : Int32} {g : aH} (hst : l.stackTraces = false) (hf : fX2_mark D h a0 a1 a2 = some (q, g)) : aM l D yX2_mark cX2_mark 3 (some .int) 7 164 [va_rf a0, .int a1, .int a2] h (.inr (some (.int q)), g) :=
  aM.ofX [(false, va_rf a0), (false, .int a1), (false, .int a2)] rfl (ap_r (ap_c rfl (ap_c rfl ap_0))) (by decide +kernel) hst (al_of (aw_r (aw_i (aw_i aw_0))) (by decide)) fun p e s m args below meth c X => V.sub (lv' := [(0, false, va_rf a0), (1, false, .int a1), (2, false, .int a2)]) [0, 1, 2] rfl (vX2_mark X hf)
def fX2_clearMarks (D : aD) (h : aH) (a0 : Option Nat) (a1 : Int32) : Option (Int32 × aH) :=
  (pF D h 1 0 a0 (.int (0 : Int32))).bind fun h1 =>
  (aIs h1 1 a0).bind fun _ =>
  (fX2_noFigure D h1 a0 a1).bind fun x3 =>
  if x3 = 0 then
  ((gR h1 1 9 a0).bind fun x5 =>
  (aIs h1 15 x5).bind fun _ =>
  (fJ2_get D h1 x5 a1).bind fun x7 =>
  (aCast h1 [100] x7).bind fun _ =>
  (eI h1 x7 (1 : Int32)).bind fun x10 =>
  (gR h1 1 9 a0).bind fun x11 =>
  (aIs h1 15 x11).bind fun _ =>
  (fJ2_get D h1 x11 a1).bind fun x13 =>
  (aCast h1 [100] x13).bind fun _ =>
  (sF D h1 100 x13 (1 : Int32) (.int (0 : Int32))).bind fun h16 =>
  some (x10, h16))
  else
  ((aIs h1 1 a0).bind fun _ =>
  bnd2 (fX2_err D h1 a0 (1 : Int32)) fun x18 h19 =>
  some (x18, h19))
theorem vX2_clearMarks {h : aH} {a0 : Option Nat} {a1 : Int32} {q : Int32} {g : aH} (X : aX p l R s m meth c D n0 s0 yX2_clearMarks cX2_clearMarks 3 64 3 (some .int) h0) (hf : fX2_clearMarks D h a0 a1 = some (q, g)) : V p l e R s m args below meth c D n0 s0 (aEnd D below args s h0 (.inr (some (.int q)), g)) h 0 [(0, false, va_rf a0), (1, false, .int a1)] [] := by
  have C := X.1
  unfold fX2_clearMarks at hf
  refine v_aload_n (pc := 0) (j := 0) C dX2_clearMarks_0 rfl rfl ?_
  refine v_iconst (pc := 1) (v := (0 : Int32)) C dX2_clearMarks_1 rfl ?_
  obtain ⟨h1, eh1, hf⟩ := oB hf
  refine v_putF (pc := 2) C lk_X2_69 tyX2 tyX2_ok nmX2 (tyX2_ok 0 (by decide)) rfl rfl eh1 dX2_clearMarks_2 ?_
  refine v_aload_n (pc := 5) (j := 0) C dX2_clearMarks_5 rfl rfl ?_
  refine v_iload_n (pc := 6) (j := 1) C dX2_clearMarks_6 rfl rfl ?_
  obtain ⟨b2, eb2, hf⟩ := oB hf
  obtain ⟨rb2, _, kb2⟩ := aIs_eq eb2
  obtain ⟨x3, ex3, hf⟩ := oB hf
  refine v_call (pc := 7) (d_V (pc := 7) C (As := [.int a1]) (rest := []) rb2 kb2 nt_1 q2560 yi_X2_noFigure_FigureSurveyModel yk_X2_noFigure rfl (by decide) (by decide) (Nat.le_trans aw_0 (by decide)) rfl (mX2_noFigure C.st ex3) dX2_clearMarks_7) ?_
  refine v_if_eq (pc := 10) (tgt := 19) C dX2_clearMarks_10 rfl (fun hc => ?_) (fun hc => ?_)
  · rw [if_pos hc] at hf
    refine v_aload_n (pc := 19) (j := 0) C dX2_clearMarks_19 rfl rfl ?_
    obtain ⟨x5, ex5, hf⟩ := oB hf
    refine v_getF (pc := 20) C lk_X2_33 (gR_eq ex5) dX2_clearMarks_20 ?_
    refine v_iload_n (pc := 23) (j := 1) C dX2_clearMarks_23 rfl rfl ?_
    obtain ⟨b6, eb6, hf⟩ := oB hf
    obtain ⟨rb6, _, kb6⟩ := aIs_eq eb6
    obtain ⟨x7, ex7, hf⟩ := oB hf
    refine v_call (pc := 24) (d_V (pc := 24) C (As := [.int a1]) (rest := []) rb6 kb6 nt_15 q2520 yi_J2_get_java_util_ArrayList yk_J2_get rfl (by decide) (by decide) (Nat.le_trans aw_0 (by decide)) rfl (mJ2_get C.st ex7) dX2_clearMarks_24) ?_
    obtain ⟨_, e9, hf⟩ := oB hf
    refine v_cast (pc := 27) C q2521 ct__I e9 dX2_clearMarks_27 ?_
    refine v_iconst (pc := 30) (v := (1 : Int32)) C dX2_clearMarks_30 rfl ?_
    obtain ⟨x10, ex10, hf⟩ := oB hf
    refine v_iaload (pc := 31) C ex10 dX2_clearMarks_31 ?_
    refine v_istore_n (pc := 32) (lv' := [(2, false, .int x10), (0, false, va_rf a0), (1, false, .int a1)]) C dX2_clearMarks_32 rfl (by decide) rfl ?_
    refine v_aload_n (pc := 33) (j := 1) C dX2_clearMarks_33 rfl rfl ?_
    obtain ⟨x11, ex11, hf⟩ := oB hf
    refine v_getF (pc := 34) C lk_X2_33 (gR_eq ex11) dX2_clearMarks_34 ?_
    refine v_iload_n (pc := 37) (j := 2) C dX2_clearMarks_37 rfl rfl ?_
    obtain ⟨b12, eb12, hf⟩ := oB hf
    obtain ⟨rb12, _, kb12⟩ := aIs_eq eb12
    obtain ⟨x13, ex13, hf⟩ := oB hf
    refine v_call (pc := 38) (d_V (pc := 38) C (As := [.int a1]) (rest := []) rb12 kb12 nt_15 q2520 yi_J2_get_java_util_ArrayList yk_J2_get rfl (by decide) (by decide) (Nat.le_trans aw_0 (by decide)) rfl (mJ2_get C.st ex13) dX2_clearMarks_38) ?_
    obtain ⟨_, e15, hf⟩ := oB hf
    refine v_cast (pc := 41) C q2521 ct__I e15 dX2_clearMarks_41 ?_
    refine v_iconst (pc := 44) (v := (1 : Int32)) C dX2_clearMarks_44 rfl ?_
    refine v_iconst (pc := 45) (v := (0 : Int32)) C dX2_clearMarks_45 rfl ?_
    obtain ⟨h16, eh16, hf⟩ := oB hf
    refine v_iastore (pc := 46) C eh16 dX2_clearMarks_46 ?_
    refine v_iload_n (pc := 47) (j := 0) C dX2_clearMarks_47 rfl rfl ?_
    cases hf
    exact v_ireturn (pc := 48) C X.2.1 X.2.2.1 X.2.2.2.1 rfl dX2_clearMarks_48
  · rw [if_neg hc] at hf
    refine v_aload_n (pc := 13) (j := 0) C dX2_clearMarks_13 rfl rfl ?_
    refine v_iconst (pc := 14) (v := (1 : Int32)) C dX2_clearMarks_14 rfl ?_
    obtain ⟨b17, eb17, hf⟩ := oB hf
    obtain ⟨rb17, _, kb17⟩ := aIs_eq eb17
    obtain ⟨x18, h19, ex18, hf⟩ := bnd2_eq hf
    refine v_call (pc := 15) (d_V (pc := 15) C (As := [.int (1 : Int32)]) (rest := []) rb17 kb17 nt_1 q2498 yi_X2_err_FigureSurveyModel yk_X2_err rfl (by decide) (by decide) (Nat.le_trans aw_0 (by decide)) rfl (mX2_err C.st ex18) dX2_clearMarks_15) ?_
    cases hf
    exact v_ireturn (pc := 18) C X.2.1 X.2.2.1 X.2.2.2.1 rfl dX2_clearMarks_18
theorem mX2_clearMarks {l : Launch} {D : aD} {h : aH} {a0 : Option Nat} {a1 : Int32} {q : Int32} {g : aH} (hst : l.stackTraces = false) (hf : fX2_clearMarks D h a0 a1 = some (q, g)) : aM l D yX2_clearMarks cX2_clearMarks 3 (some .int) 3 64 [va_rf a0, .int a1] h (.inr (some (.int q)), g) :=
  aM.ofX [(false, va_rf a0), (false, .int a1)] rfl (ap_r (ap_c rfl ap_0)) (by decide +kernel) hst (al_of (aw_r (aw_i aw_0)) (by decide)) fun p e s m args below meth c X => V.sub (lv' := [(0, false, va_rf a0), (1, false, .int a1)]) [0, 1] rfl (vX2_clearMarks X hf)
def fX2_doubtOf (D : aD) (h : aH) (a0 : Option Nat) (a1 : Int32) : Option (Int32 × aH) :=
  (pF D h 1 0 a0 (.int (0 : Int32))).bind fun h1 =>
  (aIs h1 1 a0).bind fun _ =>
  (fX2_noFigure D h1 a0 a1).bind fun x3 =>
  if x3 = 0 then
  ((aIs h1 1 a0).bind fun _ =>
  bnd2 (fX2_doubt D h1 a0 a1) fun x6 h7 =>
  some (x6, h7))
  else
  ((aIs h1 1 a0).bind fun _ =>
  bnd2 (fX2_err D h1 a0 (1 : Int32)) fun x9 h10 =>
  some (x9, h10))
theorem vX2_doubtOf {h : aH} {a0 : Option Nat} {a1 : Int32} {q : Int32} {g : aH} (X : aX p l R s m meth c D n0 s0 yX2_doubtOf cX2_doubtOf 7 164 2 (some .int) h0) (hf : fX2_doubtOf D h a0 a1 = some (q, g)) : V p l e R s m args below meth c D n0 s0 (aEnd D below args s h0 (.inr (some (.int q)), g)) h 0 [(0, false, va_rf a0), (1, false, .int a1)] [] := by
  have C := X.1
  unfold fX2_doubtOf at hf
  refine v_aload_n (pc := 0) (j := 0) C dX2_doubtOf_0 rfl rfl ?_
  refine v_iconst (pc := 1) (v := (0 : Int32)) C dX2_doubtOf_1 rfl ?_
  obtain ⟨h1, eh1, hf⟩ := oB hf
  refine v_putF (pc := 2) C lk_X2_69 tyX2 tyX2_ok nmX2 (tyX2_ok 0 (by decide)) rfl rfl eh1 dX2_doubtOf_2 ?_
  refine v_aload_n (pc := 5) (j := 0) C dX2_doubtOf_5 rfl rfl ?_
  refine v_iload_n (pc := 6) (j := 1) C dX2_doubtOf_6 rfl rfl ?_
  obtain ⟨b2, eb2, hf⟩ := oB hf
  obtain ⟨rb2, _, kb2⟩ := aIs_eq eb2
  obtain ⟨x3, ex3, hf⟩ := oB hf
  refine v_call (pc := 7) (d_V (pc := 7) C (As := [.int a1]) (rest := []) rb2 kb2 nt_1 q2560 yi_X2_noFigure_FigureSurveyModel yk_X2_noFigure rfl (by decide) (by decide) (Nat.le_trans aw_0 (by decide)) rfl (mX2_noFigure C.st ex3) dX2_doubtOf_7) ?_
  refine v_if_eq (pc := 10) (tgt := 21) C dX2_doubtOf_10 rfl (fun hc => ?_) (fun hc => ?_)
  · rw [if_pos hc] at hf
    refine v_aload_n (pc := 21) (j := 0) C dX2_doubtOf_21 rfl rfl ?_
    refine v_iload_n (pc := 22) (j := 1) C dX2_doubtOf_22 rfl rfl ?_
    obtain ⟨b5, eb5, hf⟩ := oB hf
    obtain ⟨rb5, _, kb5⟩ := aIs_eq eb5
    obtain ⟨x6, h7, ex6, hf⟩ := bnd2_eq hf
    refine v_call (pc := 23) (d_V (pc := 23) C (As := [.int a1]) (rest := []) rb5 kb5 nt_1 q2633 yi_X2_doubt_FigureSurveyModel yk_X2_doubt rfl (by decide) (by decide) (Nat.le_trans aw_0 (by decide)) rfl (mX2_doubt C.st ex6) dX2_doubtOf_23) ?_
    cases hf
    exact v_ireturn (pc := 26) C X.2.1 X.2.2.1 X.2.2.2.1 rfl dX2_doubtOf_26
  · rw [if_neg hc] at hf
    refine v_aload_n (pc := 13) (j := 0) C dX2_doubtOf_13 rfl rfl ?_
    refine v_iconst (pc := 14) (v := (1 : Int32)) C dX2_doubtOf_14 rfl ?_
    obtain ⟨b8, eb8, hf⟩ := oB hf
    obtain ⟨rb8, _, kb8⟩ := aIs_eq eb8
    obtain ⟨x9, h10, ex9, hf⟩ := bnd2_eq hf
    refine v_call (pc := 15) (d_V (pc := 15) C (As := [.int (1 : Int32)]) (rest := []) rb8 kb8 nt_1 q2498 yi_X2_err_FigureSurveyModel yk_X2_err rfl (by decide) (by decide) (Nat.le_trans aw_0 (by decide)) rfl (mX2_err C.st ex9) dX2_doubtOf_15) ?_
    refine v_goto (pc := 18) (tgt := 26) C dX2_doubtOf_18 rfl ?_
    cases hf
    exact v_ireturn (pc := 26) C X.2.1 X.2.2.1 X.2.2.2.1 rfl dX2_doubtOf_26
theorem mX2_doubtOf {l : Launch} {D : aD} {h : aH} {a0 : Option Nat} {a1 : Int32} {q : Int32} {g : aH} (hst : l.stackTraces = false) (hf : fX2_doubtOf D h a0 a1 = some (q, g)) : aM l D yX2_doubtOf cX2_doubtOf 2 (some .int) 7 164 [va_rf a0, .int a1] h (.inr (some (.int q)), g) :=
  aM.ofX [(false, va_rf a0), (false, .int a1)] rfl (ap_r (ap_c rfl ap_0)) (by decide +kernel) hst (al_of (aw_r (aw_i aw_0)) (by decide)) fun p e s m args below meth c X => V.sub (lv' := [(0, false, va_rf a0), (1, false, .int a1)]) [0, 1] rfl (vX2_doubtOf X hf)
def fX2_setWeapon_p25 (D : aD) (h : aH) (a0 : Option Nat) : Option (Int32 × aH) :=
  (aIs h 1 a0).bind fun _ =>
  bnd2 (fX2_err D h a0 (1 : Int32)) fun x2 h3 =>
  some (x2, h3)
theorem vX2_setWeapon_p25 {h : aH} {a0 : Option Nat} {q : Int32} {g : aH} (X : aX p l R s m meth c D n0 s0 yX2_setWeapon cX2_setWeapon 1 22 4 (some .int) h0) (hf : fX2_setWeapon_p25 D h a0 = some (q, g)) : V p l e R s m args below meth c D n0 s0 (aEnd D below args s h0 (.inr (some (.int q)), g)) h 25 [(0, false, va_rf a0)] [] := by
  have C := X.1
  unfold fX2_setWeapon_p25 at hf
  refine v_aload_n (pc := 25) (j := 0) C dX2_setWeapon_25 rfl rfl ?_
  refine v_iconst (pc := 26) (v := (1 : Int32)) C dX2_setWeapon_26 rfl ?_
  obtain ⟨b1, eb1, hf⟩ := oB hf
  obtain ⟨rb1, _, kb1⟩ := aIs_eq eb1
  obtain ⟨x2, h3, ex2, hf⟩ := bnd2_eq hf
  refine v_call (pc := 27) (d_V (pc := 27) C (As := [.int (1 : Int32)]) (rest := []) rb1 kb1 nt_1 q2498 yi_X2_err_FigureSurveyModel yk_X2_err rfl (by decide) (by decide) (Nat.le_trans aw_0 (by decide)) rfl (mX2_err C.st ex2) dX2_setWeapon_27) ?_
  cases hf
  exact v_ireturn (pc := 30) C X.2.1 X.2.2.1 X.2.2.2.1 rfl dX2_setWeapon_30
def fX2_setWeapon (D : aD) (h : aH) (a0 : Option Nat) (a1 : Int32) (a2 : Int32) : Option (Int32 × aH) :=
  (pF D h 1 0 a0 (.int (0 : Int32))).bind fun h1 =>
  (fX2_in D h1 a1 (0 : Int32) (4 : Int32)).bind fun x3 =>
  if x3 = 0 then
  (fX2_setWeapon_p25 D h1 a0)
  else
  ((fX2_in D h1 a2 (0 : Int32) (30000 : Int32)).bind fun x6 =>
  if x6 = 0 then
  (fX2_setWeapon_p25 D h1 a0)
  else
  ((gR h1 1 14 a0).bind fun x8 =>
  (eI h1 x8 a1).bind fun x9 =>
  (gR h1 1 14 a0).bind fun x10 =>
  (sF D h1 100 x10 a1 (.int a2)).bind fun h11 =>
  some (x9, h11)))
theorem vX2_setWeapon {h : aH} {a0 : Option Nat} {a1 : Int32} {a2 : Int32} {q : Int32} {g : aH} (X : aX p l R s m meth c D n0 s0 yX2_setWeapon cX2_setWeapon 1 22 4 (some .int) h0) (hf : fX2_setWeapon D h a0 a1 a2 = some (q, g)) : V p l e R s m args below meth c D n0 s0 (aEnd D below args s h0 (.inr (some (.int q)), g)) h 0 [(0, false, va_rf a0), (1, false, .int a1), (2, false, .int a2)] [] := by
  have C := X.1
  unfold fX2_setWeapon at hf
  refine v_aload_n (pc := 0) (j := 0) C dX2_setWeapon_0 rfl rfl ?_
  refine v_iconst (pc := 1) (v := (0 : Int32)) C dX2_setWeapon_1 rfl ?_
  obtain ⟨h1, eh1, hf⟩ := oB hf
  refine v_putF (pc := 2) C lk_X2_69 tyX2 tyX2_ok nmX2 (tyX2_ok 0 (by decide)) rfl rfl eh1 dX2_setWeapon_2 ?_
  refine v_iload_n (pc := 5) (j := 1) C dX2_setWeapon_5 rfl rfl ?_
  refine v_iconst (pc := 6) (v := (0 : Int32)) C dX2_setWeapon_6 rfl ?_
  refine v_iconst (pc := 7) (v := (4 : Int32)) C dX2_setWeapon_7 rfl ?_
  obtain ⟨x3, ex3, hf⟩ := oB hf
  refine v_call (pc := 8) (d_S (pc := 8) C (As := [.int a1, .int (0 : Int32), .int (4 : Int32)]) (rest := []) q2495 q2496 yk_X2_in rfl (by decide) (by decide) (Nat.le_trans aw_0 (by decide)) rfl (mX2_in C.st ex3) dX2_setWeapon_8) ?_
  refine v_if_eq (pc := 11) (tgt := 25) C dX2_setWeapon_11 rfl (fun hc => ?_) (fun hc => ?_)
  · rw [if_pos hc] at hf
    exact V.sub [0] rfl (vX2_setWeapon_p25 X hf)
  · rw [if_neg hc] at hf
    refine v_iload_n (pc := 14) (j := 2) C dX2_setWeapon_14 rfl rfl ?_
    refine v_iconst (pc := 15) (v := (0 : Int32)) C dX2_setWeapon_15 rfl ?_
    refine v_sipush (pc := 16) (v := (30000 : Int32)) C dX2_setWeapon_16 rfl ?_
    obtain ⟨x6, ex6, hf⟩ := oB hf
    refine v_call (pc := 19) (d_S (pc := 19) C (As := [.int a2, .int (0 : Int32), .int (30000 : Int32)]) (rest := []) q2495 q2496 yk_X2_in rfl (by decide) (by decide) (Nat.le_trans aw_0 (by decide)) rfl (mX2_in C.st ex6) dX2_setWeapon_19) ?_
    refine v_if_ne (pc := 22) (tgt := 31) C dX2_setWeapon_22 rfl (fun hc => ?_) (fun hc => ?_)
    · rw [if_neg hc] at hf
      refine v_aload_n (pc := 31) (j := 0) C dX2_setWeapon_31 rfl rfl ?_
      obtain ⟨x8, ex8, hf⟩ := oB hf
      refine v_getF (pc := 32) C lk_X2_50 (gR_eq ex8) dX2_setWeapon_32 ?_
      refine v_iload_n (pc := 35) (j := 1) C dX2_setWeapon_35 rfl rfl ?_
      obtain ⟨x9, ex9, hf⟩ := oB hf
      refine v_iaload (pc := 36) C ex9 dX2_setWeapon_36 ?_
      refine v_istore_n (pc := 37) (lv' := [(3, false, .int x9), (0, false, va_rf a0), (1, false, .int a1), (2, false, .int a2)]) C dX2_setWeapon_37 rfl (by decide) rfl ?_
      refine v_aload_n (pc := 38) (j := 1) C dX2_setWeapon_38 rfl rfl ?_
      obtain ⟨x10, ex10, hf⟩ := oB hf
      refine v_getF (pc := 39) C lk_X2_50 (gR_eq ex10) dX2_setWeapon_39 ?_
      refine v_iload_n (pc := 42) (j := 2) C dX2_setWeapon_42 rfl rfl ?_
      refine v_iload_n (pc := 43) (j := 3) C dX2_setWeapon_43 rfl rfl ?_
      obtain ⟨h11, eh11, hf⟩ := oB hf
      refine v_iastore (pc := 44) C eh11 dX2_setWeapon_44 ?_
      refine v_iload_n (pc := 45) (j := 0) C dX2_setWeapon_45 rfl rfl ?_
      cases hf
      exact v_ireturn (pc := 46) C X.2.1 X.2.2.1 X.2.2.2.1 rfl dX2_setWeapon_46
    · rw [if_pos (Decidable.of_not_not hc)] at hf
      exact V.sub [0] rfl (vX2_setWeapon_p25 X hf)
theorem mX2_setWeapon {l : Launch} {D : aD} {h : aH} {a0 : Option Nat} {a1 : Int32} {a2 : Int32} {q : Int32} {g : aH} (hst : l.stackTraces = false) (hf : fX2_setWeapon D h a0 a1 a2 = some (q, g)) : aM l D yX2_setWeapon cX2_setWeapon 4 (some .int) 1 22 [va_rf a0, .int a1, .int a2] h (.inr (some (.int q)), g) :=
  aM.ofX [(false, va_rf a0), (false, .int a1), (false, .int a2)] rfl (ap_r (ap_c rfl (ap_c rfl ap_0))) (by decide +kernel) hst (al_of (aw_r (aw_i (aw_i aw_0))) (by decide)) fun p e s m args below meth c X => V.sub (lv' := [(0, false, va_rf a0), (1, false, .int a1), (2, false, .int a2)]) [0, 1, 2] rfl (vX2_setWeapon X hf)
def fX2_setAnimal_p25 (D : aD) (h : aH) (a0 : Option Nat) : Option (Int32 × aH) :=
  (aIs h 1 a0).bind fun _ =>
  bnd2 (fX2_err D h a0 (1 : Int32)) fun x2 h3 =>
  some (x2, h3)
theorem vX2_setAnimal_p25 {h : aH} {a0 : Option Nat} {q : Int32} {g : aH} (X : aX p l R s m meth c D n0 s0 yX2_setAnimal cX2_setAnimal 1 22 4 (some .int) h0) (hf : fX2_setAnimal_p25 D h a0 = some (q, g)) : V p l e R s m args below meth c D n0 s0 (aEnd D below args s h0 (.inr (some (.int q)), g)) h 25 [(0, false, va_rf a0)] [] := by
  have C := X.1
  unfold fX2_setAnimal_p25 at hf
  refine v_aload_n (pc := 25) (j := 0) C dX2_setAnimal_25 rfl rfl ?_
  refine v_iconst (pc := 26) (v := (1 : Int32)) C dX2_setAnimal_26 rfl ?_
  obtain ⟨b1, eb1, hf⟩ := oB hf
  obtain ⟨rb1, _, kb1⟩ := aIs_eq eb1
  obtain ⟨x2, h3, ex2, hf⟩ := bnd2_eq hf
  refine v_call (pc := 27) (d_V (pc := 27) C (As := [.int (1 : Int32)]) (rest := []) rb1 kb1 nt_1 q2498 yi_X2_err_FigureSurveyModel yk_X2_err rfl (by decide) (by decide) (Nat.le_trans aw_0 (by decide)) rfl (mX2_err C.st ex2) dX2_setAnimal_27) ?_
  cases hf
  exact v_ireturn (pc := 30) C X.2.1 X.2.2.1 X.2.2.2.1 rfl dX2_setAnimal_30
def fX2_setAnimal (D : aD) (h : aH) (a0 : Option Nat) (a1 : Int32) (a2 : Int32) : Option (Int32 × aH) :=
  (pF D h 1 0 a0 (.int (0 : Int32))).bind fun h1 =>
  (fX2_in D h1 a1 (0 : Int32) (4 : Int32)).bind fun x3 =>
  if x3 = 0 then
  (fX2_setAnimal_p25 D h1 a0)
  else
  ((fX2_in D h1 a2 (0 : Int32) (30000 : Int32)).bind fun x6 =>
  if x6 = 0 then
  (fX2_setAnimal_p25 D h1 a0)
  else
  ((gR h1 1 15 a0).bind fun x8 =>
  (eI h1 x8 a1).bind fun x9 =>
  (gR h1 1 15 a0).bind fun x10 =>
  (sF D h1 100 x10 a1 (.int a2)).bind fun h11 =>
  some (x9, h11)))
theorem vX2_setAnimal {h : aH} {a0 : Option Nat} {a1 : Int32} {a2 : Int32} {q : Int32} {g : aH} (X : aX p l R s m meth c D n0 s0 yX2_setAnimal cX2_setAnimal 1 22 4 (some .int) h0) (hf : fX2_setAnimal D h a0 a1 a2 = some (q, g)) : V p l e R s m args below meth c D n0 s0 (aEnd D below args s h0 (.inr (some (.int q)), g)) h 0 [(0, false, va_rf a0), (1, false, .int a1), (2, false, .int a2)] [] := by
  have C := X.1
  unfold fX2_setAnimal at hf
  refine v_aload_n (pc := 0) (j := 0) C dX2_setAnimal_0 rfl rfl ?_
  refine v_iconst (pc := 1) (v := (0 : Int32)) C dX2_setAnimal_1 rfl ?_
  obtain ⟨h1, eh1, hf⟩ := oB hf
  refine v_putF (pc := 2) C lk_X2_69 tyX2 tyX2_ok nmX2 (tyX2_ok 0 (by decide)) rfl rfl eh1 dX2_setAnimal_2 ?_
  refine v_iload_n (pc := 5) (j := 1) C dX2_setAnimal_5 rfl rfl ?_
  refine v_iconst (pc := 6) (v := (0 : Int32)) C dX2_setAnimal_6 rfl ?_
  refine v_iconst (pc := 7) (v := (4 : Int32)) C dX2_setAnimal_7 rfl ?_
  obtain ⟨x3, ex3, hf⟩ := oB hf
  refine v_call (pc := 8) (d_S (pc := 8) C (As := [.int a1, .int (0 : Int32), .int (4 : Int32)]) (rest := []) q2495 q2496 yk_X2_in rfl (by decide) (by decide) (Nat.le_trans aw_0 (by decide)) rfl (mX2_in C.st ex3) dX2_setAnimal_8) ?_
  refine v_if_eq (pc := 11) (tgt := 25) C dX2_setAnimal_11 rfl (fun hc => ?_) (fun hc => ?_)
  · rw [if_pos hc] at hf
    exact V.sub [0] rfl (vX2_setAnimal_p25 X hf)
  · rw [if_neg hc] at hf
    refine v_iload_n (pc := 14) (j := 2) C dX2_setAnimal_14 rfl rfl ?_
    refine v_iconst (pc := 15) (v := (0 : Int32)) C dX2_setAnimal_15 rfl ?_
    refine v_sipush (pc := 16) (v := (30000 : Int32)) C dX2_setAnimal_16 rfl ?_
    obtain ⟨x6, ex6, hf⟩ := oB hf
    refine v_call (pc := 19) (d_S (pc := 19) C (As := [.int a2, .int (0 : Int32), .int (30000 : Int32)]) (rest := []) q2495 q2496 yk_X2_in rfl (by decide) (by decide) (Nat.le_trans aw_0 (by decide)) rfl (mX2_in C.st ex6) dX2_setAnimal_19) ?_
    refine v_if_ne (pc := 22) (tgt := 31) C dX2_setAnimal_22 rfl (fun hc => ?_) (fun hc => ?_)
    · rw [if_neg hc] at hf
      refine v_aload_n (pc := 31) (j := 0) C dX2_setAnimal_31 rfl rfl ?_
      obtain ⟨x8, ex8, hf⟩ := oB hf
      refine v_getF (pc := 32) C lk_X2_54 (gR_eq ex8) dX2_setAnimal_32 ?_
      refine v_iload_n (pc := 35) (j := 1) C dX2_setAnimal_35 rfl rfl ?_
      obtain ⟨x9, ex9, hf⟩ := oB hf
      refine v_iaload (pc := 36) C ex9 dX2_setAnimal_36 ?_
      refine v_istore_n (pc := 37) (lv' := [(3, false, .int x9), (0, false, va_rf a0), (1, false, .int a1), (2, false, .int a2)]) C dX2_setAnimal_37 rfl (by decide) rfl ?_
      refine v_aload_n (pc := 38) (j := 1) C dX2_setAnimal_38 rfl rfl ?_
      obtain ⟨x10, ex10, hf⟩ := oB hf
      refine v_getF (pc := 39) C lk_X2_54 (gR_eq ex10) dX2_setAnimal_39 ?_
      refine v_iload_n (pc := 42) (j := 2) C dX2_setAnimal_42 rfl rfl ?_
      refine v_iload_n (pc := 43) (j := 3) C dX2_setAnimal_43 rfl rfl ?_
      obtain ⟨h11, eh11, hf⟩ := oB hf
      refine v_iastore (pc := 44) C eh11 dX2_setAnimal_44 ?_
      refine v_iload_n (pc := 45) (j := 0) C dX2_setAnimal_45 rfl rfl ?_
      cases hf
      exact v_ireturn (pc := 46) C X.2.1 X.2.2.1 X.2.2.2.1 rfl dX2_setAnimal_46
    · rw [if_pos (Decidable.of_not_not hc)] at hf
      exact V.sub [0] rfl (vX2_setAnimal_p25 X hf)
theorem mX2_setAnimal {l : Launch} {D : aD} {h : aH} {a0 : Option Nat} {a1 : Int32} {a2 : Int32} {q : Int32} {g : aH} (hst : l.stackTraces = false) (hf : fX2_setAnimal D h a0 a1 a2 = some (q, g)) : aM l D yX2_setAnimal cX2_setAnimal 4 (some .int) 1 22 [va_rf a0, .int a1, .int a2] h (.inr (some (.int q)), g) :=
  aM.ofX [(false, va_rf a0), (false, .int a1), (false, .int a2)] rfl (ap_r (ap_c rfl (ap_c rfl ap_0))) (by decide +kernel) hst (al_of (aw_r (aw_i (aw_i aw_0))) (by decide)) fun p e s m args below meth c X => V.sub (lv' := [(0, false, va_rf a0), (1, false, .int a1), (2, false, .int a2)]) [0, 1, 2] rfl (vX2_setAnimal X hf)
def fX2_many_p68 (D : aD) (h : aH) (K5 : (Option Nat) → Int32 → Int32 → Int32 → Int32 → Option (Int32)) (a0 : Option Nat) (a1 : Int32) (a2 : Int32) (a4 : Int32) (t0 : Int32) (t1 : Int32) : Option (Int32) :=
  (some ((t0 + t1))).bind fun x1 =>
  K5 a0 a1 a2 x1 (a4 + 1)
theorem vX2_many_p68 {h : aH} {K5 : (Option Nat) → Int32 → Int32 → Int32 → Int32 → Option (Int32)} {a0 : Option Nat} {a1 : Int32} {a2 : Int32} {a4 : Int32} {t0 : Int32} {t1 : Int32} {q : Int32} (X : aX p l R s m meth c D n0 s0 yX2_many cX2_many 4 85 6 (some .int) h0) (k5 : ∀ (a0 : Option Nat) (a1 : Int32) (a2 : Int32) (a3 : Int32) (a4 : Int32) (q : Int32), K5 a0 a1 a2 a3 a4 = some q → V p l e R s m args below meth c D n0 s0 (aEnd D below args s h0 (.inr (some (.int q)), h)) h 5 [(0, false, va_rf a0), (1, false, .int a1), (2, false, .int a2), (3, false, .int a3), (4, false, .int a4)] []) (hf : fX2_many_p68 D h K5 a0 a1 a2 a4 t0 t1 = some q) : V p l e R s m args below meth c D n0 s0 (aEnd D below args s h0 (.inr (some (.int q)), h)) h 68 [(0, false, va_rf a0), (1, false, .int a1), (2, false, .int a2), (4, false, .int a4)] [.int t1, .int t0] := by
  have C := X.1
  unfold fX2_many_p68 at hf
  refine v_iadd (pc := 68) C dX2_many_68 ?_
  obtain ⟨x1, ex1, hf⟩ := oB hf
  refine vst (Option.some.inj ex1) (fun z => .int z :: []) ?_
  refine v_istore_n (pc := 69) (lv' := [(3, false, .int x1), (0, false, va_rf a0), (1, false, .int a1), (2, false, .int a2), (4, false, .int a4)]) C dX2_many_69 rfl (by decide) rfl ?_
  refine v_iinc (pc := 70) (j := 4) (v := (a4 + 1)) (lv' := [(4, false, .int (a4 + 1)), (3, false, .int x1), (0, false, va_rf a0), (1, false, .int a1), (2, false, .int a2)]) C dX2_many_70 rfl rfl (by decide) rfl ?_
  refine v_goto (pc := 73) (tgt := 5) C dX2_many_73 rfl ?_
  exact V.sub [2, 3, 4, 1, 0] rfl (k5 _ _ _ _ _ _ hf)
def fX2_many_p5 (D : aD) (h : aH) : Nat → (Option Nat) → Int32 → Int32 → Int32 → Int32 → Option (Int32)
  | 0, _, _, _, _, _ => none
  | n + 1, a0, a1, a2, a3, a4 =>
  (gR h 1 13 a0).bind fun x1 =>
  (aIs h 15 x1).bind fun _ =>
  (fJ2_size D h x1).bind fun x3 =>
  if x3 ≤ a4 then
  (some a3)
  else
  ((gR h 1 13 a0).bind fun x5 =>
  (aIs h 15 x5).bind fun _ =>
  (fJ2_get D h x5 a4).bind fun x7 =>
  (aCast h [100] x7).bind fun _ =>
  (eI h x7 (4 : Int32)).bind fun x10 =>
  if x10 = 0 then
  ((eI h x7 (1 : Int32)).bind fun x11 =>
  (aIs h 1 a0).bind fun _ =>
  (fX2_panelOf D h a0 x11).bind fun x13 =>
  if x13 = a1 then
  ((eI h x7 (0 : Int32)).bind fun x15 =>
  (fJ11_min D h x15 (2 : Int32)).bind fun x17 =>
  fX2_many_p68 D h (fX2_many_p5 D h n) a0 a1 a2 a4 a3 (if x17 = a2 then (1 : Int32) else (0 : Int32)))
  else
  (fX2_many_p68 D h (fX2_many_p5 D h n) a0 a1 a2 a4 a3 (0 : Int32)))
  else
  (fX2_many_p68 D h (fX2_many_p5 D h n) a0 a1 a2 a4 a3 (0 : Int32)))
theorem vX2_many_p5 {h : aH} (X : aX p l R s m meth c D n0 s0 yX2_many cX2_many 4 85 6 (some .int) h0) : ∀ (n : Nat) (a0 : Option Nat) (a1 : Int32) (a2 : Int32) (a3 : Int32) (a4 : Int32) (q : Int32), fX2_many_p5 D h n a0 a1 a2 a3 a4 = some q → V p l e R s m args below meth c D n0 s0 (aEnd D below args s h0 (.inr (some (.int q)), h)) h 5 [(0, false, va_rf a0), (1, false, .int a1), (2, false, .int a2), (3, false, .int a3), (4, false, .int a4)] [] := by
  have C := X.1
  intro n
  induction n with
  | zero =>
    intro _ _ _ _ _ _ hf
    rw [fX2_many_p5] at hf
    cases hf
  | succ n ih =>
    intro a0 a1 a2 a3 a4 q hf
    rw [fX2_many_p5] at hf
    refine v_iload (pc := 5) (j := 4) C dX2_many_5 rfl ?_
    refine v_aload_n (pc := 7) (j := 0) C dX2_many_7 rfl rfl ?_
    obtain ⟨x1, ex1, hf⟩ := oB hf
    refine v_getF (pc := 8) C lk_X2_47 (gR_eq ex1) dX2_many_8 ?_
    obtain ⟨b2, eb2, hf⟩ := oB hf
    obtain ⟨rb2, _, kb2⟩ := aIs_eq eb2
    obtain ⟨x3, ex3, hf⟩ := oB hf
    refine v_call (pc := 11) (d_V (pc := 11) C (As := []) (rest := [.int a4]) rb2 kb2 nt_15 q2502 yi_J2_size_java_util_ArrayList yk_J2_size rfl (by decide) (by decide) (Nat.le_trans (aw_i aw_0) (by decide)) rfl (mJ2_size C.st ex3) dX2_many_11) ?_
    refine v_icmp_ge (pc := 14) (tgt := 76) C dX2_many_14 rfl (fun hc => ?_) (fun hc => ?_)
    · rw [if_pos hc] at hf
      refine v_iload_n (pc := 76) (j := 3) C dX2_many_76 rfl rfl ?_
      cases hf
      exact v_ireturn (pc := 77) C X.2.1 X.2.2.1 X.2.2.2.1 rfl dX2_many_77
    · rw [if_neg hc] at hf
      refine v_aload_n (pc := 17) (j := 0) C dX2_many_17 rfl rfl ?_
      obtain ⟨x5, ex5, hf⟩ := oB hf
      refine v_getF (pc := 18) C lk_X2_47 (gR_eq ex5) dX2_many_18 ?_
      refine v_iload (pc := 21) (j := 4) C dX2_many_21 rfl ?_
      obtain ⟨b6, eb6, hf⟩ := oB hf
      obtain ⟨rb6, _, kb6⟩ := aIs_eq eb6
      obtain ⟨x7, ex7, hf⟩ := oB hf
      refine v_call (pc := 23) (d_V (pc := 23) C (As := [.int a4]) (rest := []) rb6 kb6 nt_15 q2520 yi_J2_get_java_util_ArrayList yk_J2_get rfl (by decide) (by decide) (Nat.le_trans aw_0 (by decide)) rfl (mJ2_get C.st ex7) dX2_many_23) ?_
      obtain ⟨_, e9, hf⟩ := oB hf
      refine v_cast (pc := 26) C q2521 ct__I e9 dX2_many_26 ?_
      refine v_astore (pc := 29) (lv' := [(5, false, va_rf x7), (0, false, va_rf a0), (1, false, .int a1), (2, false, .int a2), (3, false, .int a3), (4, false, .int a4)]) C dX2_many_29 (by decide) rfl ?_
      refine v_iload_n (pc := 31) (j := 4) C dX2_many_31 rfl rfl ?_
      refine v_aload (pc := 32) (j := 0) C dX2_many_32 rfl ?_
      refine v_iconst (pc := 34) (v := (4 : Int32)) C dX2_many_34 rfl ?_
      obtain ⟨x10, ex10, hf⟩ := oB hf
      refine v_iaload (pc := 35) C ex10 dX2_many_35 ?_
      refine v_if_ne (pc := 36) (tgt := 67) C dX2_many_36 rfl (fun hc => ?_) (fun hc => ?_)
      · rw [if_neg hc] at hf
        refine v_iconst (pc := 67) (v := (0 : Int32)) C dX2_many_67 rfl ?_
        exact V.sub [1, 2, 3, 5] rfl (vX2_many_p68 X ih hf)
      · rw [if_pos (Decidable.of_not_not hc)] at hf
        refine v_aload_n (pc := 39) (j := 1) C dX2_many_39 rfl rfl ?_
        refine v_aload (pc := 40) (j := 0) C dX2_many_40 rfl ?_
        refine v_iconst (pc := 42) (v := (1 : Int32)) C dX2_many_42 rfl ?_
        obtain ⟨x11, ex11, hf⟩ := oB hf
        refine v_iaload (pc := 43) C ex11 dX2_many_43 ?_
        obtain ⟨b12, eb12, hf⟩ := oB hf
        obtain ⟨rb12, _, kb12⟩ := aIs_eq eb12
        obtain ⟨x13, ex13, hf⟩ := oB hf
        refine v_call (pc := 44) (d_V (pc := 44) C (As := [.int x11]) (rest := [.int a3]) rb12 kb12 nt_1 q2552 yi_X2_panelOf_FigureSurveyModel yk_X2_panelOf rfl (by decide) (by decide) (Nat.le_trans (aw_i aw_0) (by decide)) rfl (mX2_panelOf C.st ex13) dX2_many_44) ?_
        refine v_iload_n (pc := 47) (j := 2) C dX2_many_47 rfl rfl ?_
        refine v_icmp_ne (pc := 48) (tgt := 67) C dX2_many_48 rfl (fun hc => ?_) (fun hc => ?_)
        · rw [if_neg hc] at hf
          refine v_iconst (pc := 67) (v := (0 : Int32)) C dX2_many_67 rfl ?_
          exact V.sub [1, 2, 3, 5] rfl (vX2_many_p68 X ih hf)
        · rw [if_pos (Decidable.of_not_not hc)] at hf
          refine v_aload (pc := 51) (j := 0) C dX2_many_51 rfl ?_
          refine v_iconst (pc := 53) (v := (0 : Int32)) C dX2_many_53 rfl ?_
          obtain ⟨x15, ex15, hf⟩ := oB hf
          refine v_iaload (pc := 54) C ex15 dX2_many_54 ?_
          refine v_iconst (pc := 55) (v := (2 : Int32)) C dX2_many_55 rfl ?_
          obtain ⟨x17, ex17, hf⟩ := oB hf
          refine v_call (pc := 56) (d_S (pc := 56) C (As := [.int x15, .int (2 : Int32)]) (rest := [.int a3]) q2661 q477 yk_J11_min rfl (by decide) (by decide) (Nat.le_trans (aw_i aw_0) (by decide)) rfl (mJ11_min C.st ex17) dX2_many_56) ?_
          refine v_iload_n (pc := 59) (j := 3) C dX2_many_59 rfl rfl ?_
          refine v_icmp_ne (pc := 60) (tgt := 67) C dX2_many_60 rfl (fun hc => ?_) (fun hc => ?_)
          · simp only [if_neg hc] at hf
            refine v_iconst (pc := 67) (v := (0 : Int32)) C dX2_many_67 rfl ?_
            exact V.sub [1, 2, 3, 5] rfl (vX2_many_p68 X ih hf)
          · simp only [if_pos (Decidable.of_not_not hc)] at hf
            refine v_iconst (pc := 63) (v := (1 : Int32)) C dX2_many_63 rfl ?_
            refine v_goto (pc := 64) (tgt := 68) C dX2_many_64 rfl ?_
            exact V.sub [1, 2, 3, 5] rfl (vX2_many_p68 X ih hf)
def fX2_many (D : aD) (h : aH) (a0 : Option Nat) (a1 : Int32) (a2 : Int32) : Option (Int32) :=
  fX2_many_p5 D h FU a0 a1 a2 (0 : Int32) (0 : Int32)
theorem vX2_many {h : aH} {a0 : Option Nat} {a1 : Int32} {a2 : Int32} {q : Int32} (X : aX p l R s m meth c D n0 s0 yX2_many cX2_many 4 85 6 (some .int) h0) (hf : fX2_many D h a0 a1 a2 = some q) : V p l e R s m args below meth c D n0 s0 (aEnd D below args s h0 (.inr (some (.int q)), h)) h 0 [(0, false, va_rf a0), (1, false, .int a1), (2, false, .int a2)] [] := by
  have C := X.1
  unfold fX2_many at hf
  refine v_iconst (pc := 0) (v := (0 : Int32)) C dX2_many_0 rfl ?_
  refine v_istore_n (pc := 1) (lv' := [(3, false, .int (0 : Int32)), (0, false, va_rf a0), (1, false, .int a1), (2, false, .int a2)]) C dX2_many_1 rfl (by decide) rfl ?_
  refine v_iconst (pc := 2) (v := (0 : Int32)) C dX2_many_2 rfl ?_
  refine v_istore (pc := 3) (lv' := [(4, false, .int (0 : Int32)), (3, false, .int (0 : Int32)), (0, false, va_rf a0), (1, false, .int a1), (2, false, .int a2)]) C dX2_many_3 (by decide) rfl ?_
  exact V.sub [2, 3, 4, 1, 0] rfl (vX2_many_p5 X _ _ _ _ _ _ _ hf)
theorem mX2_many {l : Launch} {D : aD} {h : aH} {a0 : Option Nat} {a1 : Int32} {a2 : Int32} {q : Int32} (hst : l.stackTraces = false) (hf : fX2_many D h a0 a1 a2 = some q) : aM l D yX2_many cX2_many 6 (some .int) 4 85 [va_rf a0, .int a1, .int a2] h (.inr (some (.int q)), h) :=
  aM.ofX [(false, va_rf a0), (false, .int a1), (false, .int a2)] rfl (ap_r (ap_c rfl (ap_c rfl ap_0))) (by decide +kernel) hst (al_of (aw_r (aw_i (aw_i aw_0))) (by decide)) fun p e s m args below meth c X => V.sub (lv' := [(0, false, va_rf a0), (1, false, .int a1), (2, false, .int a2)]) [0, 1, 2] rfl (vX2_many X hf)
def fX2_find (D : aD) (h : aH) (a0 : Option Nat) (a1 : Int32) (a2 : Int32) (a3 : Int32) (a4 : Int32) : Option (Int32 × aH) :=
  (gR h 1 13 a0).bind fun x1 =>
  (aMkA D h 100 (5 : Int32) (.int 0)).bind fun h2 =>
  (sF D h2 100 (some h.1) (0 : Int32) (.int a1)).bind fun h3 =>
  (sF D h3 100 (some h.1) (1 : Int32) (.int a2)).bind fun h4 =>
  (sF D h4 100 (some h.1) (2 : Int32) (.int a3)).bind fun h5 =>
  (sF D h5 100 (some h.1) (3 : Int32) (.int a4)).bind fun h6 =>
  (sF D h6 100 (some h.1) (4 : Int32) (.int (0 : Int32))).bind fun h7 =>
  (aIs h7 15 x1).bind fun _ =>
  bnd2 (fJ2_add D h7 x1 (some h.1)) fun x9 h10 =>
  (gR h10 1 13 a0).bind fun x11 =>
  (aIs h10 15 x11).bind fun _ =>
  (fJ2_size D h10 x11).bind fun x13 =>
  some ((x13 - (1 : Int32)), h10)
theorem vX2_find {h : aH} {a0 : Option Nat} {a1 : Int32} {a2 : Int32} {a3 : Int32} {a4 : Int32} {q : Int32} {g : aH} (X : aX p l R s m meth c D n0 s0 yX2_find cX2_find 7 152 5 (some .int) h0) (hf : fX2_find D h a0 a1 a2 a3 a4 = some (q, g)) : V p l e R s m args below meth c D n0 s0 (aEnd D below args s h0 (.inr (some (.int q)), g)) h 0 [(0, false, va_rf a0), (1, false, .int a1), (2, false, .int a2), (3, false, .int a3), (4, false, .int a4)] [] := by
  have C := X.1
  unfold fX2_find at hf
  refine v_aload_n (pc := 0) (j := 0) C dX2_find_0 rfl rfl ?_
  obtain ⟨x1, ex1, hf⟩ := oB hf
  refine v_getF (pc := 1) C lk_X2_47 (gR_eq ex1) dX2_find_1 ?_
  refine v_iconst (pc := 4) (v := (5 : Int32)) C dX2_find_4 rfl ?_
  obtain ⟨h2, eh2, hf⟩ := oB hf
  refine v_newarray (pc := 5) (t := 100) (v := .int 0) C q169 rfl rfl (by decide) (by decide) rfl eh2 dX2_find_5 ?_
  refine v_dup (pc := 7) C dX2_find_7 (va_rfc _) ?_
  refine v_iconst (pc := 8) (v := (0 : Int32)) C dX2_find_8 rfl ?_
  refine v_iload_n (pc := 9) (j := 1) C dX2_find_9 rfl rfl ?_
  obtain ⟨h3, eh3, hf⟩ := oB hf
  refine v_iastore (pc := 10) C eh3 dX2_find_10 ?_
  refine v_dup (pc := 11) C dX2_find_11 (va_rfc _) ?_
  refine v_iconst (pc := 12) (v := (1 : Int32)) C dX2_find_12 rfl ?_
  refine v_iload_n (pc := 13) (j := 2) C dX2_find_13 rfl rfl ?_
  obtain ⟨h4, eh4, hf⟩ := oB hf
  refine v_iastore (pc := 14) C eh4 dX2_find_14 ?_
  refine v_dup (pc := 15) C dX2_find_15 (va_rfc _) ?_
  refine v_iconst (pc := 16) (v := (2 : Int32)) C dX2_find_16 rfl ?_
  refine v_iload_n (pc := 17) (j := 3) C dX2_find_17 rfl rfl ?_
  obtain ⟨h5, eh5, hf⟩ := oB hf
  refine v_iastore (pc := 18) C eh5 dX2_find_18 ?_
  refine v_dup (pc := 19) C dX2_find_19 (va_rfc _) ?_
  refine v_iconst (pc := 20) (v := (3 : Int32)) C dX2_find_20 rfl ?_
  refine v_iload (pc := 21) (j := 4) C dX2_find_21 rfl ?_
  obtain ⟨h6, eh6, hf⟩ := oB hf
  refine v_iastore (pc := 23) C eh6 dX2_find_23 ?_
  refine v_dup (pc := 24) C dX2_find_24 (va_rfc _) ?_
  refine v_iconst (pc := 25) (v := (4 : Int32)) C dX2_find_25 rfl ?_
  refine v_iconst (pc := 26) (v := (0 : Int32)) C dX2_find_26 rfl ?_
  obtain ⟨h7, eh7, hf⟩ := oB hf
  refine v_iastore (pc := 27) C eh7 dX2_find_27 ?_
  obtain ⟨b8, eb8, hf⟩ := oB hf
  obtain ⟨rb8, _, kb8⟩ := aIs_eq eb8
  obtain ⟨x9, h10, ex9, hf⟩ := bnd2_eq hf
  refine v_call (pc := 28) (d_V (pc := 28) C (As := [va_rf (some h.1)]) (rest := []) rb8 kb8 nt_15 q2503 yi_J2_add_java_util_ArrayList yk_J2_add rfl (by decide) (by decide) (Nat.le_trans aw_0 (by decide)) rfl (mJ2_add C.st ex9) dX2_find_28) ?_
  refine v_pop (pc := 31) C dX2_find_31 rfl ?_
  refine v_aload_n (pc := 32) (j := 0) C dX2_find_32 rfl rfl ?_
  obtain ⟨x11, ex11, hf⟩ := oB hf
  refine v_getF (pc := 33) C lk_X2_47 (gR_eq ex11) dX2_find_33 ?_
  obtain ⟨b12, eb12, hf⟩ := oB hf
  obtain ⟨rb12, _, kb12⟩ := aIs_eq eb12
  obtain ⟨x13, ex13, hf⟩ := oB hf
  refine v_call (pc := 36) (d_V (pc := 36) C (As := []) (rest := []) rb12 kb12 nt_15 q2502 yi_J2_size_java_util_ArrayList yk_J2_size rfl (by decide) (by decide) (Nat.le_trans aw_0 (by decide)) rfl (mJ2_size C.st ex13) dX2_find_36) ?_
  refine v_iconst (pc := 39) (v := (1 : Int32)) C dX2_find_39 rfl ?_
  refine v_isub (pc := 40) C dX2_find_40 ?_
  cases hf
  exact v_ireturn (pc := 41) C X.2.1 X.2.2.1 X.2.2.2.1 rfl dX2_find_41
theorem mX2_find {l : Launch} {D : aD} {h : aH} {a0 : Option Nat} {a1 : Int32} {a2 : Int32} {a3 : Int32} {a4 : Int32} {q : Int32} {g : aH} (hst : l.stackTraces = false) (hf : fX2_find D h a0 a1 a2 a3 a4 = some (q, g)) : aM l D yX2_find cX2_find 5 (some .int) 7 152 [va_rf a0, .int a1, .int a2, .int a3, .int a4] h (.inr (some (.int q)), g) :=
  aM.ofX [(false, va_rf a0), (false, .int a1), (false, .int a2), (false, .int a3), (false, .int a4)] rfl (ap_r (ap_c rfl (ap_c rfl (ap_c rfl (ap_c rfl ap_0))))) (by decide +kernel) hst (al_of (aw_r (aw_i (aw_i (aw_i (aw_i aw_0))))) (by decide)) fun p e s m args below meth c X => V.sub (lv' := [(0, false, va_rf a0), (1, false, .int a1), (2, false, .int a2), (3, false, .int a3), (4, false, .int a4)]) [0, 1, 2, 3, 4] rfl (vX2_find X hf)
def fX2_findOver_p21 (D : aD) (h : aH) (a0 : Option Nat) : Option (Int32 × aH) :=
  (aIs h 1 a0).bind fun _ =>
  bnd2 (fX2_err D h a0 (1 : Int32)) fun x2 h3 =>
  some (x2, h3)
theorem vX2_findOver_p21 {h : aH} {a0 : Option Nat} {q : Int32} {g : aH} (X : aX p l R s m meth c D n0 s0 yX2_findOver cX2_findOver 8 176 4 (some .int) h0) (hf : fX2_findOver_p21 D h a0 = some (q, g)) : V p l e R s m args below meth c D n0 s0 (aEnd D below args s h0 (.inr (some (.int q)), g)) h 21 [(0, false, va_rf a0)] [] := by
  have C := X.1
  unfold fX2_findOver_p21 at hf
  refine v_aload_n (pc := 21) (j := 0) C dX2_findOver_21 rfl rfl ?_
  refine v_iconst (pc := 22) (v := (1 : Int32)) C dX2_findOver_22 rfl ?_
  obtain ⟨b1, eb1, hf⟩ := oB hf
  obtain ⟨rb1, _, kb1⟩ := aIs_eq eb1
  obtain ⟨x2, h3, ex2, hf⟩ := bnd2_eq hf
  refine v_call (pc := 23) (d_V (pc := 23) C (As := [.int (1 : Int32)]) (rest := []) rb1 kb1 nt_1 q2498 yi_X2_err_FigureSurveyModel yk_X2_err rfl (by decide) (by decide) (Nat.le_trans aw_0 (by decide)) rfl (mX2_err C.st ex2) dX2_findOver_23) ?_
  cases hf
  exact v_ireturn (pc := 26) C X.2.1 X.2.2.1 X.2.2.2.1 rfl dX2_findOver_26
def fX2_findOver_p55 (D : aD) (h : aH) (a0 : Option Nat) : Option (Int32 × aH) :=
  (aIs h 1 a0).bind fun _ =>
  bnd2 (fX2_err D h a0 (2 : Int32)) fun x2 h3 =>
  some (x2, h3)
theorem vX2_findOver_p55 {h : aH} {a0 : Option Nat} {q : Int32} {g : aH} (X : aX p l R s m meth c D n0 s0 yX2_findOver cX2_findOver 8 176 4 (some .int) h0) (hf : fX2_findOver_p55 D h a0 = some (q, g)) : V p l e R s m args below meth c D n0 s0 (aEnd D below args s h0 (.inr (some (.int q)), g)) h 55 [(0, false, va_rf a0)] [] := by
  have C := X.1
  unfold fX2_findOver_p55 at hf
  refine v_aload_n (pc := 55) (j := 0) C dX2_findOver_55 rfl rfl ?_
  refine v_iconst (pc := 56) (v := (2 : Int32)) C dX2_findOver_56 rfl ?_
  obtain ⟨b1, eb1, hf⟩ := oB hf
  obtain ⟨rb1, _, kb1⟩ := aIs_eq eb1
  obtain ⟨x2, h3, ex2, hf⟩ := bnd2_eq hf
  refine v_call (pc := 57) (d_V (pc := 57) C (As := [.int (2 : Int32)]) (rest := []) rb1 kb1 nt_1 q2498 yi_X2_err_FigureSurveyModel yk_X2_err rfl (by decide) (by decide) (Nat.le_trans aw_0 (by decide)) rfl (mX2_err C.st ex2) dX2_findOver_57) ?_
  cases hf
  exact v_ireturn (pc := 60) C X.2.1 X.2.2.1 X.2.2.2.1 rfl dX2_findOver_60
def fX2_findOver_p88 (D : aD) (h : aH) (a0 : Option Nat) : Option (Int32 × aH) :=
  (aIs h 1 a0).bind fun _ =>
  bnd2 (fX2_err D h a0 (3 : Int32)) fun x2 h3 =>
  some (x2, h3)
theorem vX2_findOver_p88 {h : aH} {a0 : Option Nat} {q : Int32} {g : aH} (X : aX p l R s m meth c D n0 s0 yX2_findOver cX2_findOver 8 176 4 (some .int) h0) (hf : fX2_findOver_p88 D h a0 = some (q, g)) : V p l e R s m args below meth c D n0 s0 (aEnd D below args s h0 (.inr (some (.int q)), g)) h 88 [(0, false, va_rf a0)] [] := by
  have C := X.1
  unfold fX2_findOver_p88 at hf
  refine v_aload_n (pc := 88) (j := 0) C dX2_findOver_88 rfl rfl ?_
  refine v_iconst (pc := 89) (v := (3 : Int32)) C dX2_findOver_89 rfl ?_
  obtain ⟨b1, eb1, hf⟩ := oB hf
  obtain ⟨rb1, _, kb1⟩ := aIs_eq eb1
  obtain ⟨x2, h3, ex2, hf⟩ := bnd2_eq hf
  refine v_call (pc := 90) (d_V (pc := 90) C (As := [.int (3 : Int32)]) (rest := []) rb1 kb1 nt_1 q2498 yi_X2_err_FigureSurveyModel yk_X2_err rfl (by decide) (by decide) (Nat.le_trans aw_0 (by decide)) rfl (mX2_err C.st ex2) dX2_findOver_90) ?_
  refine v_goto (pc := 93) (tgt := 104) C dX2_findOver_93 rfl ?_
  cases hf
  exact v_ireturn (pc := 104) C X.2.1 X.2.2.1 X.2.2.2.1 rfl dX2_findOver_104
def fX2_findOver (D : aD) (h : aH) (a0 : Option Nat) (a1 : Int32) (a2 : Int32) (a3 : Int32) : Option (Int32 × aH) :=
  (pF D h 1 0 a0 (.int (0 : Int32))).bind fun h1 =>
  (aIs h1 1 a0).bind fun _ =>
  (fX2_noFigure D h1 a0 a1).bind fun x3 =>
  if x3 = 0 then
  ((aIs h1 1 a0).bind fun _ =>
  (fX2_noFigure D h1 a0 a2).bind fun x6 =>
  if x6 = 0 then
  ((fX2_in D h1 a3 (1 : Int32) (9 : Int32)).bind fun x9 =>
  if x9 = 0 then
  (fX2_findOver_p55 D h1 a0)
  else
  (if a1 = a2 then
  (fX2_findOver_p55 D h1 a0)
  else
  ((aIs h1 1 a0).bind fun _ =>
  (fX2_panelOf D h1 a0 a1).bind fun x12 =>
  (aIs h1 1 a0).bind fun _ =>
  (fX2_panelOf D h1 a0 a2).bind fun x15 =>
  if x12 = x15 then
  ((gR h1 1 13 a0).bind fun x17 =>
  (aIs h1 15 x17).bind fun _ =>
  (fJ2_size D h1 x17).bind fun x19 =>
  if x19 = (90 : Int32) then
  (fX2_findOver_p88 D h1 a0)
  else
  ((aIs h1 1 a0).bind fun _ =>
  (fX2_panelOf D h1 a0 a1).bind fun x22 =>
  (aIs h1 1 a0).bind fun _ =>
  (fX2_many D h1 a0 x22 (0 : Int32)).bind fun x25 =>
  if x25 = (12 : Int32) then
  (fX2_findOver_p88 D h1 a0)
  else
  ((aIs h1 1 a0).bind fun _ =>
  bnd2 (fX2_find D h1 a0 (0 : Int32) a1 a2 a3) fun x28 h29 =>
  some (x28, h29))))
  else
  (fX2_findOver_p55 D h1 a0))))
  else
  (fX2_findOver_p21 D h1 a0))
  else
  (fX2_findOver_p21 D h1 a0)
theorem vX2_findOver {h : aH} {a0 : Option Nat} {a1 : Int32} {a2 : Int32} {a3 : Int32} {q : Int32} {g : aH} (X : aX p l R s m meth c D n0 s0 yX2_findOver cX2_findOver 8 176 4 (some .int) h0) (hf : fX2_findOver D h a0 a1 a2 a3 = some (q, g)) : V p l e R s m args below meth c D n0 s0 (aEnd D below args s h0 (.inr (some (.int q)), g)) h 0 [(0, false, va_rf a0), (1, false, .int a1), (2, false, .int a2), (3, false, .int a3)] [] := by
  have C := X.1
  unfold fX2_findOver at hf
  refine v_aload_n (pc := 0) (j := 0) C dX2_findOver_0 rfl rfl ?_
  refine v_iconst (pc := 1) (v := (0 : Int32)) C dX2_findOver_1 rfl ?_
  obtain ⟨h1, eh1, hf⟩ := oB hf
  refine v_putF (pc := 2) C lk_X2_69 tyX2 tyX2_ok nmX2 (tyX2_ok 0 (by decide)) rfl rfl eh1 dX2_findOver_2 ?_
  refine v_aload_n (pc := 5) (j := 0) C dX2_findOver_5 rfl rfl ?_
  refine v_iload_n (pc := 6) (j := 1) C dX2_findOver_6 rfl rfl ?_
  obtain ⟨b2, eb2, hf⟩ := oB hf
  obtain ⟨rb2, _, kb2⟩ := aIs_eq eb2
  obtain ⟨x3, ex3, hf⟩ := oB hf
  refine v_call (pc := 7) (d_V (pc := 7) C (As := [.int a1]) (rest := []) rb2 kb2 nt_1 q2560 yi_X2_noFigure_FigureSurveyModel yk_X2_noFigure rfl (by decide) (by decide) (Nat.le_trans aw_0 (by decide)) rfl (mX2_noFigure C.st ex3) dX2_findOver_7) ?_
  refine v_if_ne (pc := 10) (tgt := 21) C dX2_findOver_10 rfl (fun hc => ?_) (fun hc => ?_)
  · rw [if_neg hc] at hf
    exact V.sub [0] rfl (vX2_findOver_p21 X hf)
  · rw [if_pos (Decidable.of_not_not hc)] at hf
    refine v_aload_n (pc := 13) (j := 0) C dX2_findOver_13 rfl rfl ?_
    refine v_iload_n (pc := 14) (j := 2) C dX2_findOver_14 rfl rfl ?_
    obtain ⟨b5, eb5, hf⟩ := oB hf
    obtain ⟨rb5, _, kb5⟩ := aIs_eq eb5
    obtain ⟨x6, ex6, hf⟩ := oB hf
    refine v_call (pc := 15) (d_V (pc := 15) C (As := [.int a2]) (rest := []) rb5 kb5 nt_1 q2560 yi_X2_noFigure_FigureSurveyModel yk_X2_noFigure rfl (by decide) (by decide) (Nat.le_trans aw_0 (by decide)) rfl (mX2_noFigure C.st ex6) dX2_findOver_15) ?_
    refine v_if_eq (pc := 18) (tgt := 27) C dX2_findOver_18 rfl (fun hc => ?_) (fun hc => ?_)
    · rw [if_pos hc] at hf
      refine v_iload_n (pc := 27) (j := 3) C dX2_findOver_27 rfl rfl ?_
      refine v_iconst (pc := 28) (v := (1 : Int32)) C dX2_findOver_28 rfl ?_
      refine v_bipush (pc := 29) (v := (9 : Int32)) C dX2_findOver_29 rfl ?_
      obtain ⟨x9, ex9, hf⟩ := oB hf
      refine v_call (pc := 31) (d_S (pc := 31) C (As := [.int a3, .int (1 : Int32), .int (9 : Int32)]) (rest := []) q2495 q2496 yk_X2_in rfl (by decide) (by decide) (Nat.le_trans aw_0 (by decide)) rfl (mX2_in C.st ex9) dX2_findOver_31) ?_
      refine v_if_eq (pc := 34) (tgt := 55) C dX2_findOver_34 rfl (fun hc => ?_) (fun hc => ?_)
      · rw [if_pos hc] at hf
        exact V.sub [0] rfl (vX2_findOver_p55 X hf)
      · rw [if_neg hc] at hf
        refine v_iload_n (pc := 37) (j := 1) C dX2_findOver_37 rfl rfl ?_
        refine v_iload_n (pc := 38) (j := 2) C dX2_findOver_38 rfl rfl ?_
        refine v_icmp_eq (pc := 39) (tgt := 55) C dX2_findOver_39 rfl (fun hc => ?_) (fun hc => ?_)
        · rw [if_pos hc] at hf
          exact V.sub [0] rfl (vX2_findOver_p55 X hf)
        · rw [if_neg hc] at hf
          refine v_aload_n (pc := 42) (j := 0) C dX2_findOver_42 rfl rfl ?_
          refine v_iload_n (pc := 43) (j := 1) C dX2_findOver_43 rfl rfl ?_
          obtain ⟨b11, eb11, hf⟩ := oB hf
          obtain ⟨rb11, _, kb11⟩ := aIs_eq eb11
          obtain ⟨x12, ex12, hf⟩ := oB hf
          refine v_call (pc := 44) (d_V (pc := 44) C (As := [.int a1]) (rest := []) rb11 kb11 nt_1 q2552 yi_X2_panelOf_FigureSurveyModel yk_X2_panelOf rfl (by decide) (by decide) (Nat.le_trans aw_0 (by decide)) rfl (mX2_panelOf C.st ex12) dX2_findOver_44) ?_
          refine v_aload_n (pc := 47) (j := 0) C dX2_findOver_47 rfl rfl ?_
          refine v_iload_n (pc := 48) (j := 2) C dX2_findOver_48 rfl rfl ?_
          obtain ⟨b14, eb14, hf⟩ := oB hf
          obtain ⟨rb14, _, kb14⟩ := aIs_eq eb14
          obtain ⟨x15, ex15, hf⟩ := oB hf
          refine v_call (pc := 49) (d_V (pc := 49) C (As := [.int a2]) (rest := [.int x12]) rb14 kb14 nt_1 q2552 yi_X2_panelOf_FigureSurveyModel yk_X2_panelOf rfl (by decide) (by decide) (Nat.le_trans (aw_i aw_0) (by decide)) rfl (mX2_panelOf C.st ex15) dX2_findOver_49) ?_
          refine v_icmp_eq (pc := 52) (tgt := 61) C dX2_findOver_52 rfl (fun hc => ?_) (fun hc => ?_)
          · rw [if_pos hc] at hf
            refine v_aload_n (pc := 61) (j := 0) C dX2_findOver_61 rfl rfl ?_
            obtain ⟨x17, ex17, hf⟩ := oB hf
            refine v_getF (pc := 62) C lk_X2_47 (gR_eq ex17) dX2_findOver_62 ?_
            obtain ⟨b18, eb18, hf⟩ := oB hf
            obtain ⟨rb18, _, kb18⟩ := aIs_eq eb18
            obtain ⟨x19, ex19, hf⟩ := oB hf
            refine v_call (pc := 65) (d_V (pc := 65) C (As := []) (rest := []) rb18 kb18 nt_15 q2502 yi_J2_size_java_util_ArrayList yk_J2_size rfl (by decide) (by decide) (Nat.le_trans aw_0 (by decide)) rfl (mJ2_size C.st ex19) dX2_findOver_65) ?_
            refine v_bipush (pc := 68) (v := (90 : Int32)) C dX2_findOver_68 rfl ?_
            refine v_icmp_eq (pc := 70) (tgt := 88) C dX2_findOver_70 rfl (fun hc => ?_) (fun hc => ?_)
            · rw [if_pos hc] at hf
              exact V.sub [0] rfl (vX2_findOver_p88 X hf)
            · rw [if_neg hc] at hf
              refine v_aload_n (pc := 73) (j := 0) C dX2_findOver_73 rfl rfl ?_
              refine v_aload_n (pc := 74) (j := 0) C dX2_findOver_74 rfl rfl ?_
              refine v_iload_n (pc := 75) (j := 1) C dX2_findOver_75 rfl rfl ?_
              obtain ⟨b21, eb21, hf⟩ := oB hf
              obtain ⟨rb21, _, kb21⟩ := aIs_eq eb21
              obtain ⟨x22, ex22, hf⟩ := oB hf
              refine v_call (pc := 76) (d_V (pc := 76) C (As := [.int a1]) (rest := [va_rf a0]) rb21 kb21 nt_1 q2552 yi_X2_panelOf_FigureSurveyModel yk_X2_panelOf rfl (by decide) (by decide) (Nat.le_trans (aw_r aw_0) (by decide)) rfl (mX2_panelOf C.st ex22) dX2_findOver_76) ?_
              refine v_iconst (pc := 79) (v := (0 : Int32)) C dX2_findOver_79 rfl ?_
              obtain ⟨b24, eb24, hf⟩ := oB hf
              obtain ⟨rb24, _, kb24⟩ := aIs_eq eb24
              obtain ⟨x25, ex25, hf⟩ := oB hf
              refine v_call (pc := 80) (d_V (pc := 80) C (As := [.int x22, .int (0 : Int32)]) (rest := []) rb24 kb24 nt_1 q2657 yi_X2_many_FigureSurveyModel yk_X2_many rfl (by decide) (by decide) (Nat.le_trans aw_0 (by decide)) rfl (mX2_many C.st ex25) dX2_findOver_80) ?_
              refine v_bipush (pc := 83) (v := (12 : Int32)) C dX2_findOver_83 rfl ?_
              refine v_icmp_ne (pc := 85) (tgt := 96) C dX2_findOver_85 rfl (fun hc => ?_) (fun hc => ?_)
              · rw [if_neg hc] at hf
                refine v_aload_n (pc := 96) (j := 0) C dX2_findOver_96 rfl rfl ?_
                refine v_iconst (pc := 97) (v := (0 : Int32)) C dX2_findOver_97 rfl ?_
                refine v_iload_n (pc := 98) (j := 1) C dX2_findOver_98 rfl rfl ?_
                refine v_iload_n (pc := 99) (j := 2) C dX2_findOver_99 rfl rfl ?_
                refine v_iload_n (pc := 100) (j := 3) C dX2_findOver_100 rfl rfl ?_
                obtain ⟨b27, eb27, hf⟩ := oB hf
                obtain ⟨rb27, _, kb27⟩ := aIs_eq eb27
                obtain ⟨x28, h29, ex28, hf⟩ := bnd2_eq hf
                refine v_call (pc := 101) (d_V (pc := 101) C (As := [.int (0 : Int32), .int a1, .int a2, .int a3]) (rest := []) rb27 kb27 nt_1 q2662 yi_X2_find_FigureSurveyModel yk_X2_find rfl (by decide) (by decide) (Nat.le_trans aw_0 (by decide)) rfl (mX2_find C.st ex28) dX2_findOver_101) ?_
                cases hf
                exact v_ireturn (pc := 104) C X.2.1 X.2.2.1 X.2.2.2.1 rfl dX2_findOver_104
              · rw [if_pos (Decidable.of_not_not hc)] at hf
                exact V.sub [0] rfl (vX2_findOver_p88 X hf)
          · rw [if_neg hc] at hf
            exact V.sub [0] rfl (vX2_findOver_p55 X hf)
    · rw [if_neg hc] at hf
      exact V.sub [0] rfl (vX2_findOver_p21 X hf)
theorem mX2_findOver {l : Launch} {D : aD} {h : aH} {a0 : Option Nat} {a1 : Int32} {a2 : Int32} {a3 : Int32} {q : Int32} {g : aH} (hst : l.stackTraces = false) (hf : fX2_findOver D h a0 a1 a2 a3 = some (q, g)) : aM l D yX2_findOver cX2_findOver 4 (some .int) 8 176 [va_rf a0, .int a1, .int a2, .int a3] h (.inr (some (.int q)), g) :=
  aM.ofX [(false, va_rf a0), (false, .int a1), (false, .int a2), (false, .int a3)] rfl (ap_r (ap_c rfl (ap_c rfl (ap_c rfl ap_0)))) (by decide +kernel) hst (al_of (aw_r (aw_i (aw_i (aw_i aw_0)))) (by decide)) fun p e s m args below meth c X => V.sub (lv' := [(0, false, va_rf a0), (1, false, .int a1), (2, false, .int a2), (3, false, .int a3)]) [0, 1, 2, 3] rfl (vX2_findOver X hf)
def fX2_findDate_p67 (D : aD) (h : aH) (a0 : Option Nat) : Option (Int32 × aH) :=
  (aIs h 1 a0).bind fun _ =>
  bnd2 (fX2_err D h a0 (2 : Int32)) fun x2 h3 =>
  some (x2, h3)
theorem vX2_findDate_p67 {h : aH} {a0 : Option Nat} {q : Int32} {g : aH} (X : aX p l R s m meth c D n0 s0 yX2_findDate cX2_findDate 8 176 5 (some .int) h0) (hf : fX2_findDate_p67 D h a0 = some (q, g)) : V p l e R s m args below meth c D n0 s0 (aEnd D below args s h0 (.inr (some (.int q)), g)) h 67 [(0, false, va_rf a0)] [] := by
  have C := X.1
  unfold fX2_findDate_p67 at hf
  refine v_aload_n (pc := 67) (j := 0) C dX2_findDate_67 rfl rfl ?_
  refine v_iconst (pc := 68) (v := (2 : Int32)) C dX2_findDate_68 rfl ?_
  obtain ⟨b1, eb1, hf⟩ := oB hf
  obtain ⟨rb1, _, kb1⟩ := aIs_eq eb1
  obtain ⟨x2, h3, ex2, hf⟩ := bnd2_eq hf
  refine v_call (pc := 69) (d_V (pc := 69) C (As := [.int (2 : Int32)]) (rest := []) rb1 kb1 nt_1 q2498 yi_X2_err_FigureSurveyModel yk_X2_err rfl (by decide) (by decide) (Nat.le_trans aw_0 (by decide)) rfl (mX2_err C.st ex2) dX2_findDate_69) ?_
  cases hf
  exact v_ireturn (pc := 72) C X.2.1 X.2.2.1 X.2.2.2.1 rfl dX2_findDate_72
def fX2_findDate_p104 (D : aD) (h : aH) (a0 : Option Nat) : Option (Int32 × aH) :=
  (aIs h 1 a0).bind fun _ =>
  bnd2 (fX2_err D h a0 (3 : Int32)) fun x2 h3 =>
  some (x2, h3)
theorem vX2_findDate_p104 {h : aH} {a0 : Option Nat} {q : Int32} {g : aH} (X : aX p l R s m meth c D n0 s0 yX2_findDate cX2_findDate 8 176 5 (some .int) h0) (hf : fX2_findDate_p104 D h a0 = some (q, g)) : V p l e R s m args below meth c D n0 s0 (aEnd D below args s h0 (.inr (some (.int q)), g)) h 104 [(0, false, va_rf a0)] [] := by
  have C := X.1
  unfold fX2_findDate_p104 at hf
  refine v_aload_n (pc := 104) (j := 0) C dX2_findDate_104 rfl rfl ?_
  refine v_iconst (pc := 105) (v := (3 : Int32)) C dX2_findDate_105 rfl ?_
  obtain ⟨b1, eb1, hf⟩ := oB hf
  obtain ⟨rb1, _, kb1⟩ := aIs_eq eb1
  obtain ⟨x2, h3, ex2, hf⟩ := bnd2_eq hf
  refine v_call (pc := 106) (d_V (pc := 106) C (As := [.int (3 : Int32)]) (rest := []) rb1 kb1 nt_1 q2498 yi_X2_err_FigureSurveyModel yk_X2_err rfl (by decide) (by decide) (Nat.le_trans aw_0 (by decide)) rfl (mX2_err C.st ex2) dX2_findDate_106) ?_
  refine v_goto (pc := 109) (tgt := 121) C dX2_findDate_109 rfl ?_
  cases hf
  exact v_ireturn (pc := 121) C X.2.1 X.2.2.1 X.2.2.2.1 rfl dX2_findDate_121
def fX2_findDate_p73 (D : aD) (h : aH) (a0 : Option Nat) (a1 : Int32) (a2 : Int32) (a3 : Int32) (a4 : Int32) : Option (Int32 × aH) :=
  (gR h 1 13 a0).bind fun x1 =>
  (aIs h 15 x1).bind fun _ =>
  (fJ2_size D h x1).bind fun x3 =>
  if x3 = (90 : Int32) then
  (fX2_findDate_p104 D h a0)
  else
  ((aIs h 1 a0).bind fun _ =>
  (fX2_panelOf D h a0 a2).bind fun x6 =>
  (fJ11_min D h a1 (2 : Int32)).bind fun x9 =>
  (aIs h 1 a0).bind fun _ =>
  (fX2_many D h a0 x6 x9).bind fun x12 =>
  if x12 = (6 : Int32) then
  (fX2_findDate_p104 D h a0)
  else
  ((aIs h 1 a0).bind fun _ =>
  bnd2 (fX2_find D h a0 a1 a2 a3 a4) fun x15 h16 =>
  some (x15, h16)))
theorem vX2_findDate_p73 {h : aH} {a0 : Option Nat} {a1 : Int32} {a2 : Int32} {a3 : Int32} {a4 : Int32} {q : Int32} {g : aH} (X : aX p l R s m meth c D n0 s0 yX2_findDate cX2_findDate 8 176 5 (some .int) h0) (hf : fX2_findDate_p73 D h a0 a1 a2 a3 a4 = some (q, g)) : V p l e R s m args below meth c D n0 s0 (aEnd D below args s h0 (.inr (some (.int q)), g)) h 73 [(0, false, va_rf a0), (1, false, .int a1), (2, false, .int a2), (3, false, .int a3), (4, false, .int a4)] [] := by
  have C := X.1
  unfold fX2_findDate_p73 at hf
  refine v_aload_n (pc := 73) (j := 0) C dX2_findDate_73 rfl rfl ?_
  obtain ⟨x1, ex1, hf⟩ := oB hf
  refine v_getF (pc := 74) C lk_X2_47 (gR_eq ex1) dX2_findDate_74 ?_
  obtain ⟨b2, eb2, hf⟩ := oB hf
  obtain ⟨rb2, _, kb2⟩ := aIs_eq eb2
  obtain ⟨x3, ex3, hf⟩ := oB hf
  refine v_call (pc := 77) (d_V (pc := 77) C (As := []) (rest := []) rb2 kb2 nt_15 q2502 yi_J2_size_java_util_ArrayList yk_J2_size rfl (by decide) (by decide) (Nat.le_trans aw_0 (by decide)) rfl (mJ2_size C.st ex3) dX2_findDate_77) ?_
  refine v_bipush (pc := 80) (v := (90 : Int32)) C dX2_findDate_80 rfl ?_
  refine v_icmp_eq (pc := 82) (tgt := 104) C dX2_findDate_82 rfl (fun hc => ?_) (fun hc => ?_)
  · rw [if_pos hc] at hf
    exact V.sub [0] rfl (vX2_findDate_p104 X hf)
  · rw [if_neg hc] at hf
    refine v_aload_n (pc := 85) (j := 0) C dX2_findDate_85 rfl rfl ?_
    refine v_aload_n (pc := 86) (j := 0) C dX2_findDate_86 rfl rfl ?_
    refine v_iload_n (pc := 87) (j := 2) C dX2_findDate_87 rfl rfl ?_
    obtain ⟨b5, eb5, hf⟩ := oB hf
    obtain ⟨rb5, _, kb5⟩ := aIs_eq eb5
    obtain ⟨x6, ex6, hf⟩ := oB hf
    refine v_call (pc := 88) (d_V (pc := 88) C (As := [.int a2]) (rest := [va_rf a0]) rb5 kb5 nt_1 q2552 yi_X2_panelOf_FigureSurveyModel yk_X2_panelOf rfl (by decide) (by decide) (Nat.le_trans (aw_r aw_0) (by decide)) rfl (mX2_panelOf C.st ex6) dX2_findDate_88) ?_
    refine v_iload_n (pc := 91) (j := 1) C dX2_findDate_91 rfl rfl ?_
    refine v_iconst (pc := 92) (v := (2 : Int32)) C dX2_findDate_92 rfl ?_
    obtain ⟨x9, ex9, hf⟩ := oB hf
    refine v_call (pc := 93) (d_S (pc := 93) C (As := [.int a1, .int (2 : Int32)]) (rest := [.int x6, va_rf a0]) q2661 q477 yk_J11_min rfl (by decide) (by decide) (Nat.le_trans (aw_i (aw_r aw_0)) (by decide)) rfl (mJ11_min C.st ex9) dX2_findDate_93) ?_
    obtain ⟨b11, eb11, hf⟩ := oB hf
    obtain ⟨rb11, _, kb11⟩ := aIs_eq eb11
    obtain ⟨x12, ex12, hf⟩ := oB hf
    refine v_call (pc := 96) (d_V (pc := 96) C (As := [.int x6, .int x9]) (rest := []) rb11 kb11 nt_1 q2657 yi_X2_many_FigureSurveyModel yk_X2_many rfl (by decide) (by decide) (Nat.le_trans aw_0 (by decide)) rfl (mX2_many C.st ex12) dX2_findDate_96) ?_
    refine v_bipush (pc := 99) (v := (6 : Int32)) C dX2_findDate_99 rfl ?_
    refine v_icmp_ne (pc := 101) (tgt := 112) C dX2_findDate_101 rfl (fun hc => ?_) (fun hc => ?_)
    · rw [if_neg hc] at hf
      refine v_aload_n (pc := 112) (j := 0) C dX2_findDate_112 rfl rfl ?_
      refine v_iload_n (pc := 113) (j := 1) C dX2_findDate_113 rfl rfl ?_
      refine v_iload_n (pc := 114) (j := 2) C dX2_findDate_114 rfl rfl ?_
      refine v_iload_n (pc := 115) (j := 3) C dX2_findDate_115 rfl rfl ?_
      refine v_iload (pc := 116) (j := 4) C dX2_findDate_116 rfl ?_
      obtain ⟨b14, eb14, hf⟩ := oB hf
      obtain ⟨rb14, _, kb14⟩ := aIs_eq eb14
      obtain ⟨x15, h16, ex15, hf⟩ := bnd2_eq hf
      refine v_call (pc := 118) (d_V (pc := 118) C (As := [.int a1, .int a2, .int a3, .int a4]) (rest := []) rb14 kb14 nt_1 q2662 yi_X2_find_FigureSurveyModel yk_X2_find rfl (by decide) (by decide) (Nat.le_trans aw_0 (by decide)) rfl (mX2_find C.st ex15) dX2_findDate_118) ?_
      cases hf
      exact v_ireturn (pc := 121) C X.2.1 X.2.2.1 X.2.2.2.1 rfl dX2_findDate_121
    · rw [if_pos (Decidable.of_not_not hc)] at hf
      exact V.sub [0] rfl (vX2_findDate_p104 X hf)
def fX2_findDate (D : aD) (h : aH) (a0 : Option Nat) (a1 : Int32) (a2 : Int32) (a3 : Int32) (a4 : Int32) : Option (Int32 × aH) :=
  (pF D h 1 0 a0 (.int (0 : Int32))).bind fun h1 =>
  (aIs h1 1 a0).bind fun _ =>
  (fX2_noFigure D h1 a0 a2).bind fun x3 =>
  if x3 = 0 then
  ((fX2_in D h1 a1 (1 : Int32) (3 : Int32)).bind fun x6 =>
  if x6 = 0 then
  (fX2_findDate_p67 D h1 a0)
  else
  ((fX2_in D h1 a4 (1 : Int32) (9 : Int32)).bind fun x9 =>
  if x9 = 0 then
  (fX2_findDate_p67 D h1 a0)
  else
  (if a1 = (3 : Int32) then
  ((fX2_in D h1 a3 (1 : Int32) (400 : Int32)).bind fun x15 =>
  if x15 = 0 then
  (fX2_findDate_p67 D h1 a0)
  else
  (fX2_findDate_p73 D h1 a0 a1 a2 a3 a4))
  else
  ((fX2_in D h1 a3 (0 : Int32) (4 : Int32)).bind fun x12 =>
  if x12 = 0 then
  (fX2_findDate_p67 D h1 a0)
  else
  (fX2_findDate_p73 D h1 a0 a1 a2 a3 a4)))))
  else
  ((aIs h1 1 a0).bind fun _ =>
  bnd2 (fX2_err D h1 a0 (1 : Int32)) fun x18 h19 =>
  some (x18, h19))
theorem vX2_findDate {h : aH} {a0 : Option Nat} {a1 : Int32} {a2 : Int32} {a3 : Int32} {a4 : Int32} {q : Int32} {g : aH} (X : aX p l R s m meth c D n0 s0 yX2_findDate cX2_findDate 8 176 5 (some .int) h0) (hf : fX2_findDate D h a0 a1 a2 a3 a4 = some (q, g)) : V p l e R s m args below meth c D n0 s0 (aEnd D below args s h0 (.inr (some (.int q)), g)) h 0 [(0, false, va_rf a0), (1, false, .int a1), (2, false, .int a2), (3, false, .int a3), (4, false, .int a4)] [] := by
  have C := X.1
  unfold fX2_findDate at hf
  refine v_aload_n (pc := 0) (j := 0) C dX2_findDate_0 rfl rfl ?_
  refine v_iconst (pc := 1) (v := (0 : Int32)) C dX2_findDate_1 rfl ?_
  obtain ⟨h1, eh1, hf⟩ := oB hf
  refine v_putF (pc := 2) C lk_X2_69 tyX2 tyX2_ok nmX2 (tyX2_ok 0 (by decide)) rfl rfl eh1 dX2_findDate_2 ?_
  refine v_aload_n (pc := 5) (j := 0) C dX2_findDate_5 rfl rfl ?_
  refine v_iload_n (pc := 6) (j := 2) C dX2_findDate_6 rfl rfl ?_
  obtain ⟨b2, eb2, hf⟩ := oB hf
  obtain ⟨rb2, _, kb2⟩ := aIs_eq eb2
  obtain ⟨x3, ex3, hf⟩ := oB hf
  refine v_call (pc := 7) (d_V (pc := 7) C (As := [.int a2]) (rest := []) rb2 kb2 nt_1 q2560 yi_X2_noFigure_FigureSurveyModel yk_X2_noFigure rfl (by decide) (by decide) (Nat.le_trans aw_0 (by decide)) rfl (mX2_noFigure C.st ex3) dX2_findDate_7) ?_
  refine v_if_eq (pc := 10) (tgt := 19) C dX2_findDate_10 rfl (fun hc => ?_) (fun hc => ?_)
  · rw [if_pos hc] at hf
    refine v_iload_n (pc := 19) (j := 1) C dX2_findDate_19 rfl rfl ?_
    refine v_iconst (pc := 20) (v := (1 : Int32)) C dX2_findDate_20 rfl ?_
    refine v_iconst (pc := 21) (v := (3 : Int32)) C dX2_findDate_21 rfl ?_
    obtain ⟨x6, ex6, hf⟩ := oB hf
    refine v_call (pc := 22) (d_S (pc := 22) C (As := [.int a1, .int (1 : Int32), .int (3 : Int32)]) (rest := []) q2495 q2496 yk_X2_in rfl (by decide) (by decide) (Nat.le_trans aw_0 (by decide)) rfl (mX2_in C.st ex6) dX2_findDate_22) ?_
    refine v_if_eq (pc := 25) (tgt := 67) C dX2_findDate_25 rfl (fun hc => ?_) (fun hc => ?_)
    · rw [if_pos hc] at hf
      exact V.sub [0] rfl (vX2_findDate_p67 X hf)
    · rw [if_neg hc] at hf
      refine v_iload (pc := 28) (j := 4) C dX2_findDate_28 rfl ?_
      refine v_iconst (pc := 30) (v := (1 : Int32)) C dX2_findDate_30 rfl ?_
      refine v_bipush (pc := 31) (v := (9 : Int32)) C dX2_findDate_31 rfl ?_
      obtain ⟨x9, ex9, hf⟩ := oB hf
      refine v_call (pc := 33) (d_S (pc := 33) C (As := [.int a4, .int (1 : Int32), .int (9 : Int32)]) (rest := []) q2495 q2496 yk_X2_in rfl (by decide) (by decide) (Nat.le_trans aw_0 (by decide)) rfl (mX2_in C.st ex9) dX2_findDate_33) ?_
      refine v_if_eq (pc := 36) (tgt := 67) C dX2_findDate_36 rfl (fun hc => ?_) (fun hc => ?_)
      · rw [if_pos hc] at hf
        exact V.sub [0] rfl (vX2_findDate_p67 X hf)
      · rw [if_neg hc] at hf
        refine v_iload_n (pc := 39) (j := 1) C dX2_findDate_39 rfl rfl ?_
        refine v_iconst (pc := 40) (v := (3 : Int32)) C dX2_findDate_40 rfl ?_
        refine v_icmp_ne (pc := 41) (tgt := 58) C dX2_findDate_41 rfl (fun hc => ?_) (fun hc => ?_)
        · rw [if_neg hc] at hf
          refine v_iload_n (pc := 58) (j := 3) C dX2_findDate_58 rfl rfl ?_
          refine v_iconst (pc := 59) (v := (0 : Int32)) C dX2_findDate_59 rfl ?_
          refine v_iconst (pc := 60) (v := (4 : Int32)) C dX2_findDate_60 rfl ?_
          obtain ⟨x12, ex12, hf⟩ := oB hf
          refine v_call (pc := 61) (d_S (pc := 61) C (As := [.int a3, .int (0 : Int32), .int (4 : Int32)]) (rest := []) q2495 q2496 yk_X2_in rfl (by decide) (by decide) (Nat.le_trans aw_0 (by decide)) rfl (mX2_in C.st ex12) dX2_findDate_61) ?_
          refine v_if_ne (pc := 64) (tgt := 73) C dX2_findDate_64 rfl (fun hc => ?_) (fun hc => ?_)
          · rw [if_neg hc] at hf
            exact V.sub [0, 1, 2, 3, 4] rfl (vX2_findDate_p73 X hf)
          · rw [if_pos (Decidable.of_not_not hc)] at hf
            exact V.sub [0] rfl (vX2_findDate_p67 X hf)
        · rw [if_pos (Decidable.of_not_not hc)] at hf
          refine v_iload_n (pc := 44) (j := 3) C dX2_findDate_44 rfl rfl ?_
          refine v_iconst (pc := 45) (v := (1 : Int32)) C dX2_findDate_45 rfl ?_
          refine v_sipush (pc := 46) (v := (400 : Int32)) C dX2_findDate_46 rfl ?_
          obtain ⟨x15, ex15, hf⟩ := oB hf
          refine v_call (pc := 49) (d_S (pc := 49) C (As := [.int a3, .int (1 : Int32), .int (400 : Int32)]) (rest := []) q2495 q2496 yk_X2_in rfl (by decide) (by decide) (Nat.le_trans aw_0 (by decide)) rfl (mX2_in C.st ex15) dX2_findDate_49) ?_
          refine v_if_ne (pc := 52) (tgt := 73) C dX2_findDate_52 rfl (fun hc => ?_) (fun hc => ?_)
          · rw [if_neg hc] at hf
            exact V.sub [0, 1, 2, 3, 4] rfl (vX2_findDate_p73 X hf)
          · rw [if_pos (Decidable.of_not_not hc)] at hf
            refine v_goto (pc := 55) (tgt := 67) C dX2_findDate_55 rfl ?_
            exact V.sub [0] rfl (vX2_findDate_p67 X hf)
  · rw [if_neg hc] at hf
    refine v_aload_n (pc := 13) (j := 0) C dX2_findDate_13 rfl rfl ?_
    refine v_iconst (pc := 14) (v := (1 : Int32)) C dX2_findDate_14 rfl ?_
    obtain ⟨b17, eb17, hf⟩ := oB hf
    obtain ⟨rb17, _, kb17⟩ := aIs_eq eb17
    obtain ⟨x18, h19, ex18, hf⟩ := bnd2_eq hf
    refine v_call (pc := 15) (d_V (pc := 15) C (As := [.int (1 : Int32)]) (rest := []) rb17 kb17 nt_1 q2498 yi_X2_err_FigureSurveyModel yk_X2_err rfl (by decide) (by decide) (Nat.le_trans aw_0 (by decide)) rfl (mX2_err C.st ex18) dX2_findDate_15) ?_
    cases hf
    exact v_ireturn (pc := 18) C X.2.1 X.2.2.1 X.2.2.2.1 rfl dX2_findDate_18
theorem mX2_findDate {l : Launch} {D : aD} {h : aH} {a0 : Option Nat} {a1 : Int32} {a2 : Int32} {a3 : Int32} {a4 : Int32} {q : Int32} {g : aH} (hst : l.stackTraces = false) (hf : fX2_findDate D h a0 a1 a2 a3 a4 = some (q, g)) : aM l D yX2_findDate cX2_findDate 5 (some .int) 8 176 [va_rf a0, .int a1, .int a2, .int a3, .int a4] h (.inr (some (.int q)), g) :=
  aM.ofX [(false, va_rf a0), (false, .int a1), (false, .int a2), (false, .int a3), (false, .int a4)] rfl (ap_r (ap_c rfl (ap_c rfl (ap_c rfl (ap_c rfl ap_0))))) (by decide +kernel) hst (al_of (aw_r (aw_i (aw_i (aw_i (aw_i aw_0))))) (by decide)) fun p e s m args below meth c X => V.sub (lv' := [(0, false, va_rf a0), (1, false, .int a1), (2, false, .int a2), (3, false, .int a3), (4, false, .int a4)]) [0, 1, 2, 3, 4] rfl (vX2_findDate X hf)
def fX2_noFinding (D : aD) (h : aH) (a0 : Option Nat) (a1 : Int32) : Option (Int32) :=
  (gR h 1 13 a0).bind fun x1 =>
  (aIs h 15 x1).bind fun _ =>
  (fJ2_size D h x1).bind fun x3 =>
  (fX2_in D h a1 (0 : Int32) (x3 - (1 : Int32))).bind fun x6 =>
  if x6 = 0 then
  (some (1 : Int32))
  else
  ((gR h 1 13 a0).bind fun x8 =>
  (aIs h 15 x8).bind fun _ =>
  (fJ2_get D h x8 a1).bind fun x10 =>
  (aCast h [100] x10).bind fun _ =>
  (eI h x10 (4 : Int32)).bind fun x13 =>
  if x13 = (1 : Int32) then
  (some (1 : Int32))
  else
  (some (0 : Int32)))
theorem vX2_noFinding {h : aH} {a0 : Option Nat} {a1 : Int32} {q : Int32} (X : aX p l R s m meth c D n0 s0 yX2_noFinding cX2_noFinding 3 64 2 (some .boolean) h0) (hf : fX2_noFinding D h a0 a1 = some q) : V p l e R s m args below meth c D n0 s0 (aEnd D below args s h0 (.inr (some (.int q)), h)) h 0 [(0, false, va_rf a0), (1, false, .int a1)] [] := by
  have C := X.1
  unfold fX2_noFinding at hf
  refine v_iload_n (pc := 0) (j := 1) C dX2_noFinding_0 rfl rfl ?_
  refine v_iconst (pc := 1) (v := (0 : Int32)) C dX2_noFinding_1 rfl ?_
  refine v_aload_n (pc := 2) (j := 0) C dX2_noFinding_2 rfl rfl ?_
  obtain ⟨x1, ex1, hf⟩ := oB hf
  refine v_getF (pc := 3) C lk_X2_47 (gR_eq ex1) dX2_noFinding_3 ?_
  obtain ⟨b2, eb2, hf⟩ := oB hf
  obtain ⟨rb2, _, kb2⟩ := aIs_eq eb2
  obtain ⟨x3, ex3, hf⟩ := oB hf
  refine v_call (pc := 6) (d_V (pc := 6) C (As := []) (rest := [.int (0 : Int32), .int a1]) rb2 kb2 nt_15 q2502 yi_J2_size_java_util_ArrayList yk_J2_size rfl (by decide) (by decide) (Nat.le_trans (aw_i (aw_i aw_0)) (by decide)) rfl (mJ2_size C.st ex3) dX2_noFinding_6) ?_
  refine v_iconst (pc := 9) (v := (1 : Int32)) C dX2_noFinding_9 rfl ?_
  refine v_isub (pc := 10) C dX2_noFinding_10 ?_
  obtain ⟨x6, ex6, hf⟩ := oB hf
  refine v_call (pc := 11) (d_S (pc := 11) C (As := [.int a1, .int (0 : Int32), .int (x3 - (1 : Int32))]) (rest := []) q2495 q2496 yk_X2_in rfl (by decide) (by decide) (Nat.le_trans aw_0 (by decide)) rfl (mX2_in C.st ex6) dX2_noFinding_11) ?_
  refine v_if_eq (pc := 14) (tgt := 34) C dX2_noFinding_14 rfl (fun hc => ?_) (fun hc => ?_)
  · rw [if_pos hc] at hf
    refine v_iconst (pc := 34) (v := (1 : Int32)) C dX2_noFinding_34 rfl ?_
    refine v_goto (pc := 35) (tgt := 39) C dX2_noFinding_35 rfl ?_
    cases hf
    exact v_zreturn (pc := 39) C X.2.1 X.2.2.1 X.2.2.2.1 (by decide) rfl dX2_noFinding_39
  · rw [if_neg hc] at hf
    refine v_aload_n (pc := 17) (j := 0) C dX2_noFinding_17 rfl rfl ?_
    obtain ⟨x8, ex8, hf⟩ := oB hf
    refine v_getF (pc := 18) C lk_X2_47 (gR_eq ex8) dX2_noFinding_18 ?_
    refine v_iload_n (pc := 21) (j := 1) C dX2_noFinding_21 rfl rfl ?_
    obtain ⟨b9, eb9, hf⟩ := oB hf
    obtain ⟨rb9, _, kb9⟩ := aIs_eq eb9
    obtain ⟨x10, ex10, hf⟩ := oB hf
    refine v_call (pc := 22) (d_V (pc := 22) C (As := [.int a1]) (rest := []) rb9 kb9 nt_15 q2520 yi_J2_get_java_util_ArrayList yk_J2_get rfl (by decide) (by decide) (Nat.le_trans aw_0 (by decide)) rfl (mJ2_get C.st ex10) dX2_noFinding_22) ?_
    obtain ⟨_, e12, hf⟩ := oB hf
    refine v_cast (pc := 25) C q2521 ct__I e12 dX2_noFinding_25 ?_
    refine v_iconst (pc := 28) (v := (4 : Int32)) C dX2_noFinding_28 rfl ?_
    obtain ⟨x13, ex13, hf⟩ := oB hf
    refine v_iaload (pc := 29) C ex13 dX2_noFinding_29 ?_
    refine v_iconst (pc := 30) (v := (1 : Int32)) C dX2_noFinding_30 rfl ?_
    refine v_icmp_ne (pc := 31) (tgt := 38) C dX2_noFinding_31 rfl (fun hc => ?_) (fun hc => ?_)
    · rw [if_neg hc] at hf
      refine v_iconst (pc := 38) (v := (0 : Int32)) C dX2_noFinding_38 rfl ?_
      cases hf
      exact v_zreturn (pc := 39) C X.2.1 X.2.2.1 X.2.2.2.1 (by decide) rfl dX2_noFinding_39
    · rw [if_pos (Decidable.of_not_not hc)] at hf
      refine v_iconst (pc := 34) (v := (1 : Int32)) C dX2_noFinding_34 rfl ?_
      refine v_goto (pc := 35) (tgt := 39) C dX2_noFinding_35 rfl ?_
      cases hf
      exact v_zreturn (pc := 39) C X.2.1 X.2.2.1 X.2.2.2.1 (by decide) rfl dX2_noFinding_39
theorem mX2_noFinding {l : Launch} {D : aD} {h : aH} {a0 : Option Nat} {a1 : Int32} {q : Int32} (hst : l.stackTraces = false) (hf : fX2_noFinding D h a0 a1 = some q) : aM l D yX2_noFinding cX2_noFinding 2 (some .boolean) 3 64 [va_rf a0, .int a1] h (.inr (some (.int q)), h) :=
  aM.ofX [(false, va_rf a0), (false, .int a1)] rfl (ap_r (ap_c rfl ap_0)) (by decide +kernel) hst (al_of (aw_r (aw_i aw_0)) (by decide)) fun p e s m args below meth c X => V.sub (lv' := [(0, false, va_rf a0), (1, false, .int a1)]) [0, 1] rfl (vX2_noFinding X hf)
def fX2_remove (D : aD) (h : aH) (a0 : Option Nat) (a1 : Int32) : Option (Int32 × aH) :=
  (pF D h 1 0 a0 (.int (0 : Int32))).bind fun h1 =>
  (aIs h1 1 a0).bind fun _ =>
  (fX2_noFinding D h1 a0 a1).bind fun x3 =>
  if x3 = 0 then
  ((gR h1 1 13 a0).bind fun x5 =>
  (aIs h1 15 x5).bind fun _ =>
  (fJ2_get D h1 x5 a1).bind fun x7 =>
  (aCast h1 [100] x7).bind fun _ =>
  (sF D h1 100 x7 (4 : Int32) (.int (1 : Int32))).bind fun h10 =>
  (gR h10 1 13 a0).bind fun x11 =>
  (aIs h10 15 x11).bind fun _ =>
  (fJ2_get D h10 x11 a1).bind fun x13 =>
  (aCast h10 [100] x13).bind fun _ =>
  (eI h10 x13 (3 : Int32)).bind fun x16 =>
  some (x16, h10))
  else
  ((aIs h1 1 a0).bind fun _ =>
  bnd2 (fX2_err D h1 a0 (1 : Int32)) fun x18 h19 =>
  some (x18, h19))
theorem vX2_remove {h : aH} {a0 : Option Nat} {a1 : Int32} {q : Int32} {g : aH} (X : aX p l R s m meth c D n0 s0 yX2_remove cX2_remove 4 85 2 (some .int) h0) (hf : fX2_remove D h a0 a1 = some (q, g)) : V p l e R s m args below meth c D n0 s0 (aEnd D below args s h0 (.inr (some (.int q)), g)) h 0 [(0, false, va_rf a0), (1, false, .int a1)] [] := by
  have C := X.1
  unfold fX2_remove at hf
  refine v_aload_n (pc := 0) (j := 0) C dX2_remove_0 rfl rfl ?_
  refine v_iconst (pc := 1) (v := (0 : Int32)) C dX2_remove_1 rfl ?_
  obtain ⟨h1, eh1, hf⟩ := oB hf
  refine v_putF (pc := 2) C lk_X2_69 tyX2 tyX2_ok nmX2 (tyX2_ok 0 (by decide)) rfl rfl eh1 dX2_remove_2 ?_
  refine v_aload_n (pc := 5) (j := 0) C dX2_remove_5 rfl rfl ?_
  refine v_iload_n (pc := 6) (j := 1) C dX2_remove_6 rfl rfl ?_
  obtain ⟨b2, eb2, hf⟩ := oB hf
  obtain ⟨rb2, _, kb2⟩ := aIs_eq eb2
  obtain ⟨x3, ex3, hf⟩ := oB hf
  refine v_call (pc := 7) (d_V (pc := 7) C (As := [.int a1]) (rest := []) rb2 kb2 nt_1 q2674 yi_X2_noFinding_FigureSurveyModel yk_X2_noFinding rfl (by decide) (by decide) (Nat.le_trans aw_0 (by decide)) rfl (mX2_noFinding C.st ex3) dX2_remove_7) ?_
  refine v_if_eq (pc := 10) (tgt := 19) C dX2_remove_10 rfl (fun hc => ?_) (fun hc => ?_)
  · rw [if_pos hc] at hf
    refine v_aload_n (pc := 19) (j := 0) C dX2_remove_19 rfl rfl ?_
    obtain ⟨x5, ex5, hf⟩ := oB hf
    refine v_getF (pc := 20) C lk_X2_47 (gR_eq ex5) dX2_remove_20 ?_
    refine v_iload_n (pc := 23) (j := 1) C dX2_remove_23 rfl rfl ?_
    obtain ⟨b6, eb6, hf⟩ := oB hf
    obtain ⟨rb6, _, kb6⟩ := aIs_eq eb6
    obtain ⟨x7, ex7, hf⟩ := oB hf
    refine v_call (pc := 24) (d_V (pc := 24) C (As := [.int a1]) (rest := []) rb6 kb6 nt_15 q2520 yi_J2_get_java_util_ArrayList yk_J2_get rfl (by decide) (by decide) (Nat.le_trans aw_0 (by decide)) rfl (mJ2_get C.st ex7) dX2_remove_24) ?_
    obtain ⟨_, e9, hf⟩ := oB hf
    refine v_cast (pc := 27) C q2521 ct__I e9 dX2_remove_27 ?_
    refine v_iconst (pc := 30) (v := (4 : Int32)) C dX2_remove_30 rfl ?_
    refine v_iconst (pc := 31) (v := (1 : Int32)) C dX2_remove_31 rfl ?_
    obtain ⟨h10, eh10, hf⟩ := oB hf
    refine v_iastore (pc := 32) C eh10 dX2_remove_32 ?_
    refine v_aload_n (pc := 33) (j := 0) C dX2_remove_33 rfl rfl ?_
    obtain ⟨x11, ex11, hf⟩ := oB hf
    refine v_getF (pc := 34) C lk_X2_47 (gR_eq ex11) dX2_remove_34 ?_
    refine v_iload_n (pc := 37) (j := 1) C dX2_remove_37 rfl rfl ?_
    obtain ⟨b12, eb12, hf⟩ := oB hf
    obtain ⟨rb12, _, kb12⟩ := aIs_eq eb12
    obtain ⟨x13, ex13, hf⟩ := oB hf
    refine v_call (pc := 38) (d_V (pc := 38) C (As := [.int a1]) (rest := []) rb12 kb12 nt_15 q2520 yi_J2_get_java_util_ArrayList yk_J2_get rfl (by decide) (by decide) (Nat.le_trans aw_0 (by decide)) rfl (mJ2_get C.st ex13) dX2_remove_38) ?_
    obtain ⟨_, e15, hf⟩ := oB hf
    refine v_cast (pc := 41) C q2521 ct__I e15 dX2_remove_41 ?_
    refine v_iconst (pc := 44) (v := (3 : Int32)) C dX2_remove_44 rfl ?_
    obtain ⟨x16, ex16, hf⟩ := oB hf
    refine v_iaload (pc := 45) C ex16 dX2_remove_45 ?_
    cases hf
    exact v_ireturn (pc := 46) C X.2.1 X.2.2.1 X.2.2.2.1 rfl dX2_remove_46
  · rw [if_neg hc] at hf
    refine v_aload_n (pc := 13) (j := 0) C dX2_remove_13 rfl rfl ?_
    refine v_iconst (pc := 14) (v := (1 : Int32)) C dX2_remove_14 rfl ?_
    obtain ⟨b17, eb17, hf⟩ := oB hf
    obtain ⟨rb17, _, kb17⟩ := aIs_eq eb17
    obtain ⟨x18, h19, ex18, hf⟩ := bnd2_eq hf
    refine v_call (pc := 15) (d_V (pc := 15) C (As := [.int (1 : Int32)]) (rest := []) rb17 kb17 nt_1 q2498 yi_X2_err_FigureSurveyModel yk_X2_err rfl (by decide) (by decide) (Nat.le_trans aw_0 (by decide)) rfl (mX2_err C.st ex18) dX2_remove_15) ?_
    cases hf
    exact v_ireturn (pc := 18) C X.2.1 X.2.2.1 X.2.2.2.1 rfl dX2_remove_18
theorem mX2_remove {l : Launch} {D : aD} {h : aH} {a0 : Option Nat} {a1 : Int32} {q : Int32} {g : aH} (hst : l.stackTraces = false) (hf : fX2_remove D h a0 a1 = some (q, g)) : aM l D yX2_remove cX2_remove 2 (some .int) 4 85 [va_rf a0, .int a1] h (.inr (some (.int q)), g) :=
  aM.ofX [(false, va_rf a0), (false, .int a1)] rfl (ap_r (ap_c rfl ap_0)) (by decide +kernel) hst (al_of (aw_r (aw_i aw_0)) (by decide)) fun p e s m args below meth c X => V.sub (lv' := [(0, false, va_rf a0), (1, false, .int a1)]) [0, 1] rfl (vX2_remove X hf)
def fX10_place_p2 (D : aD) (h : aH) : Nat → (Option Nat) → Int32 → Int32 → Option (Int32)
  | 0, _, _, _ => none
  | n + 1, a0, a1, a2 =>
  (gR h 9 0 a0).bind fun x1 =>
  (eN h x1).bind fun x2 =>
  if x2 ≤ a2 then
  (some (-1 : Int32))
  else
  ((gR h 9 0 a0).bind fun x3 =>
  (eI h x3 a2).bind fun x4 =>
  if x4 = a1 then
  (some a2)
  else
  (fX10_place_p2 D h n a0 a1 (a2 + 1)))
theorem vX10_place_p2 {h : aH} (X : aX p l R s m meth c D n0 s0 yX10_place cX10_place 0 0 3 (some .int) h0) : ∀ (n : Nat) (a0 : Option Nat) (a1 : Int32) (a2 : Int32) (q : Int32), fX10_place_p2 D h n a0 a1 a2 = some q → V p l e R s m args below meth c D n0 s0 (aEnd D below args s h0 (.inr (some (.int q)), h)) h 2 [(0, false, va_rf a0), (1, false, .int a1), (2, false, .int a2)] [] := by
  have C := X.1
  intro n
  induction n with
  | zero =>
    intro _ _ _ _ hf
    rw [fX10_place_p2] at hf
    cases hf
  | succ n ih =>
    intro a0 a1 a2 q hf
    rw [fX10_place_p2] at hf
    refine v_iload_n (pc := 2) (j := 2) C dX10_place_2 rfl rfl ?_
    refine v_aload_n (pc := 3) (j := 0) C dX10_place_3 rfl rfl ?_
    obtain ⟨x1, ex1, hf⟩ := oB hf
    refine v_getF (pc := 4) C lk_X10_48 (gR_eq ex1) dX10_place_4 ?_
    obtain ⟨x2, ex2, hf⟩ := oB hf
    refine v_alen (pc := 7) C ex2 dX10_place_7 ?_
    refine v_icmp_ge (pc := 8) (tgt := 29) C dX10_place_8 rfl (fun hc => ?_) (fun hc => ?_)
    · rw [if_pos hc] at hf
      refine v_iconst (pc := 29) (v := (-1 : Int32)) C dX10_place_29 rfl ?_
      cases hf
      exact v_ireturn (pc := 30) C X.2.1 X.2.2.1 X.2.2.2.1 rfl dX10_place_30
    · rw [if_neg hc] at hf
      refine v_aload_n (pc := 11) (j := 0) C dX10_place_11 rfl rfl ?_
      obtain ⟨x3, ex3, hf⟩ := oB hf
      refine v_getF (pc := 12) C lk_X10_48 (gR_eq ex3) dX10_place_12 ?_
      refine v_iload_n (pc := 15) (j := 2) C dX10_place_15 rfl rfl ?_
      obtain ⟨x4, ex4, hf⟩ := oB hf
      refine v_iaload (pc := 16) C ex4 dX10_place_16 ?_
      refine v_iload_n (pc := 17) (j := 1) C dX10_place_17 rfl rfl ?_
      refine v_icmp_ne (pc := 18) (tgt := 23) C dX10_place_18 rfl (fun hc => ?_) (fun hc => ?_)
      · rw [if_neg hc] at hf
        refine v_iinc (pc := 23) (j := 2) (v := (a2 + 1)) (lv' := [(2, false, .int (a2 + 1)), (0, false, va_rf a0), (1, false, .int a1)]) C dX10_place_23 rfl rfl (by decide) rfl ?_
        refine v_goto (pc := 26) (tgt := 2) C dX10_place_26 rfl ?_
        exact V.sub [1, 2, 0] rfl (ih _ _ _ _ hf)
      · rw [if_pos (Decidable.of_not_not hc)] at hf
        refine v_iload_n (pc := 21) (j := 2) C dX10_place_21 rfl rfl ?_
        cases hf
        exact v_ireturn (pc := 22) C X.2.1 X.2.2.1 X.2.2.2.1 rfl dX10_place_22
def fX10_place (D : aD) (h : aH) (a0 : Option Nat) (a1 : Int32) : Option (Int32) :=
  fX10_place_p2 D h FU a0 a1 (0 : Int32)
theorem vX10_place {h : aH} {a0 : Option Nat} {a1 : Int32} {q : Int32} (X : aX p l R s m meth c D n0 s0 yX10_place cX10_place 0 0 3 (some .int) h0) (hf : fX10_place D h a0 a1 = some q) : V p l e R s m args below meth c D n0 s0 (aEnd D below args s h0 (.inr (some (.int q)), h)) h 0 [(0, false, va_rf a0), (1, false, .int a1)] [] := by
  have C := X.1
  unfold fX10_place at hf
  refine v_iconst (pc := 0) (v := (0 : Int32)) C dX10_place_0 rfl ?_
  refine v_istore_n (pc := 1) (lv' := [(2, false, .int (0 : Int32)), (0, false, va_rf a0), (1, false, .int a1)]) C dX10_place_1 rfl (by decide) rfl ?_
  exact V.sub [1, 2, 0] rfl (vX10_place_p2 X _ _ _ _ _ hf)
theorem mX10_place {l : Launch} {D : aD} {h : aH} {a0 : Option Nat} {a1 : Int32} {q : Int32} (hst : l.stackTraces = false) (hf : fX10_place D h a0 a1 = some q) : aM l D yX10_place cX10_place 3 (some .int) 0 0 [va_rf a0, .int a1] h (.inr (some (.int q)), h) :=
  aM.ofX [(false, va_rf a0), (false, .int a1)] rfl (ap_r (ap_c rfl ap_0)) (by decide +kernel) hst (al_of (aw_r (aw_i aw_0)) (by decide)) fun p e s m args below meth c X => V.sub (lv' := [(0, false, va_rf a0), (1, false, .int a1)]) [0, 1] rfl (vX10_place X hf)
def fX10_cost_p70 (D : aD) (h : aH) (K5 : (Option Nat) → Int32 → Int32 → Int32 → Int32 → Option (Int32)) (a0 : Option Nat) (a1 : Int32) (a2 : Int32) (a3 : Int32) (a4 : Int32) : Option (Int32) :=
  K5 a0 a1 a2 a3 (a4 + 1)
theorem vX10_cost_p70 {h : aH} {K5 : (Option Nat) → Int32 → Int32 → Int32 → Int32 → Option (Int32)} {a0 : Option Nat} {a1 : Int32} {a2 : Int32} {a3 : Int32} {a4 : Int32} {q : Int32} (X : aX p l R s m meth c D n0 s0 yX10_cost cX10_cost 3 64 5 (some .int) h0) (k5 : ∀ (a0 : Option Nat) (a1 : Int32) (a2 : Int32) (a3 : Int32) (a4 : Int32) (q : Int32), K5 a0 a1 a2 a3 a4 = some q → V p l e R s m args below meth c D n0 s0 (aEnd D below args s h0 (.inr (some (.int q)), h)) h 5 [(0, false, va_rf a0), (1, false, .int a1), (2, false, .int a2), (3, false, .int a3), (4, false, .int a4)] []) (hf : fX10_cost_p70 D h K5 a0 a1 a2 a3 a4 = some q) : V p l e R s m args below meth c D n0 s0 (aEnd D below args s h0 (.inr (some (.int q)), h)) h 70 [(0, false, va_rf a0), (1, false, .int a1), (2, false, .int a2), (3, false, .int a3), (4, false, .int a4)] [] := by
  have C := X.1
  unfold fX10_cost_p70 at hf
  refine v_iinc (pc := 70) (j := 4) (v := (a4 + 1)) (lv' := [(4, false, .int (a4 + 1)), (0, false, va_rf a0), (1, false, .int a1), (2, false, .int a2), (3, false, .int a3)]) C dX10_cost_70 rfl rfl (by decide) rfl ?_
  refine v_goto (pc := 73) (tgt := 5) C dX10_cost_73 rfl ?_
  exact V.sub [1, 2, 3, 4, 0] rfl (k5 _ _ _ _ _ _ hf)
def fX10_cost_p5 (D : aD) (h : aH) : Nat → (Option Nat) → Int32 → Int32 → Int32 → Int32 → Option (Int32)
  | 0, _, _, _, _, _ => none
  | n + 1, a0, a1, a2, a3, a4 =>
  (gI h 9 3 a0).bind fun x1 =>
  if x1 ≤ a4 then
  (some a3)
  else
  ((gR h 9 2 a0).bind fun x2 =>
  (eR h x2 a4).bind fun x3 =>
  (eI h x3 (1 : Int32)).bind fun x4 =>
  if x4 = a2 then
  ((gR h 9 2 a0).bind fun x5 =>
  (eR h x5 a4).bind fun x6 =>
  (eI h x6 (2 : Int32)).bind fun x7 =>
  if ((a1 >>> (x7 &&& 31)) &&& (1 : Int32)) = 0 then
  ((gR h 9 7 a0).bind fun x8 =>
  (gR h 1 13 x8).bind fun x9 =>
  (gR h 9 2 a0).bind fun x10 =>
  (eR h x10 a4).bind fun x11 =>
  (eI h x11 (0 : Int32)).bind fun x12 =>
  (aIs h 15 x9).bind fun _ =>
  (fJ2_get D h x9 x12).bind fun x14 =>
  (aCast h [100] x14).bind fun _ =>
  (eI h x14 (3 : Int32)).bind fun x17 =>
  (some ((a3 + x17))).bind fun x18 =>
  fX10_cost_p70 D h (fX10_cost_p5 D h n) a0 a1 a2 x18 a4)
  else
  (fX10_cost_p70 D h (fX10_cost_p5 D h n) a0 a1 a2 a3 a4))
  else
  (fX10_cost_p70 D h (fX10_cost_p5 D h n) a0 a1 a2 a3 a4))
theorem vX10_cost_p5 {h : aH} (X : aX p l R s m meth c D n0 s0 yX10_cost cX10_cost 3 64 5 (some .int) h0) : ∀ (n : Nat) (a0 : Option Nat) (a1 : Int32) (a2 : Int32) (a3 : Int32) (a4 : Int32) (q : Int32), fX10_cost_p5 D h n a0 a1 a2 a3 a4 = some q → V p l e R s m args below meth c D n0 s0 (aEnd D below args s h0 (.inr (some (.int q)), h)) h 5 [(0, false, va_rf a0), (1, false, .int a1), (2, false, .int a2), (3, false, .int a3), (4, false, .int a4)] [] := by
  have C := X.1
  intro n
  induction n with
  | zero =>
    intro _ _ _ _ _ _ hf
    rw [fX10_cost_p5] at hf
    cases hf
  | succ n ih =>
    intro a0 a1 a2 a3 a4 q hf
    rw [fX10_cost_p5] at hf
    refine v_iload (pc := 5) (j := 4) C dX10_cost_5 rfl ?_
    refine v_aload_n (pc := 7) (j := 0) C dX10_cost_7 rfl rfl ?_
    obtain ⟨x1, ex1, hf⟩ := oB hf
    refine v_getF (pc := 8) C lk_X10_58 (gI_eq ex1) dX10_cost_8 ?_
    refine v_icmp_ge (pc := 11) (tgt := 76) C dX10_cost_11 rfl (fun hc => ?_) (fun hc => ?_)
    · rw [if_pos hc] at hf
      refine v_iload_n (pc := 76) (j := 3) C dX10_cost_76 rfl rfl ?_
      cases hf
      exact v_ireturn (pc := 77) C X.2.1 X.2.2.1 X.2.2.2.1 rfl dX10_cost_77
    · rw [if_neg hc] at hf
      refine v_aload_n (pc := 14) (j := 0) C dX10_cost_14 rfl rfl ?_
      obtain ⟨x2, ex2, hf⟩ := oB hf
      refine v_getF (pc := 15) C lk_X10_17 (gR_eq ex2) dX10_cost_15 ?_
      refine v_iload (pc := 18) (j := 4) C dX10_cost_18 rfl ?_
      obtain ⟨x3, ex3, hf⟩ := oB hf
      refine v_aaload (pc := 20) C ex3 dX10_cost_20 ?_
      refine v_iconst (pc := 21) (v := (1 : Int32)) C dX10_cost_21 rfl ?_
      obtain ⟨x4, ex4, hf⟩ := oB hf
      refine v_iaload (pc := 22) C ex4 dX10_cost_22 ?_
      refine v_iload_n (pc := 23) (j := 2) C dX10_cost_23 rfl rfl ?_
      refine v_icmp_ne (pc := 24) (tgt := 70) C dX10_cost_24 rfl (fun hc => ?_) (fun hc => ?_)
      · rw [if_neg hc] at hf
        exact V.sub [0, 1, 2, 3, 4] rfl (vX10_cost_p70 X ih hf)
      · rw [if_pos (Decidable.of_not_not hc)] at hf
        refine v_iload_n (pc := 27) (j := 1) C dX10_cost_27 rfl rfl ?_
        refine v_aload_n (pc := 28) (j := 0) C dX10_cost_28 rfl rfl ?_
        obtain ⟨x5, ex5, hf⟩ := oB hf
        refine v_getF (pc := 29) C lk_X10_17 (gR_eq ex5) dX10_cost_29 ?_
        refine v_iload (pc := 32) (j := 4) C dX10_cost_32 rfl ?_
        obtain ⟨x6, ex6, hf⟩ := oB hf
        refine v_aaload (pc := 34) C ex6 dX10_cost_34 ?_
        refine v_iconst (pc := 35) (v := (2 : Int32)) C dX10_cost_35 rfl ?_
        obtain ⟨x7, ex7, hf⟩ := oB hf
        refine v_iaload (pc := 36) C ex7 dX10_cost_36 ?_
        refine v_ishr (pc := 37) C dX10_cost_37 ?_
        refine v_iconst (pc := 38) (v := (1 : Int32)) C dX10_cost_38 rfl ?_
        refine v_iand (pc := 39) C dX10_cost_39 ?_
        refine v_if_ne (pc := 40) (tgt := 70) C dX10_cost_40 rfl (fun hc => ?_) (fun hc => ?_)
        · rw [if_neg hc] at hf
          exact V.sub [0, 1, 2, 3, 4] rfl (vX10_cost_p70 X ih hf)
        · rw [if_pos (Decidable.of_not_not hc)] at hf
          refine v_iload_n (pc := 43) (j := 3) C dX10_cost_43 rfl rfl ?_
          refine v_aload_n (pc := 44) (j := 0) C dX10_cost_44 rfl rfl ?_
          obtain ⟨x8, ex8, hf⟩ := oB hf
          refine v_getF (pc := 45) C lk_X10_3 (gR_eq ex8) dX10_cost_45 ?_
          obtain ⟨x9, ex9, hf⟩ := oB hf
          refine v_getF (pc := 48) C lk_X10_21 (gR_eq ex9) dX10_cost_48 ?_
          refine v_aload_n (pc := 51) (j := 0) C dX10_cost_51 rfl rfl ?_
          obtain ⟨x10, ex10, hf⟩ := oB hf
          refine v_getF (pc := 52) C lk_X10_17 (gR_eq ex10) dX10_cost_52 ?_
          refine v_iload (pc := 55) (j := 4) C dX10_cost_55 rfl ?_
          obtain ⟨x11, ex11, hf⟩ := oB hf
          refine v_aaload (pc := 57) C ex11 dX10_cost_57 ?_
          refine v_iconst (pc := 58) (v := (0 : Int32)) C dX10_cost_58 rfl ?_
          obtain ⟨x12, ex12, hf⟩ := oB hf
          refine v_iaload (pc := 59) C ex12 dX10_cost_59 ?_
          obtain ⟨b13, eb13, hf⟩ := oB hf
          obtain ⟨rb13, _, kb13⟩ := aIs_eq eb13
          obtain ⟨x14, ex14, hf⟩ := oB hf
          refine v_call (pc := 60) (d_V (pc := 60) C (As := [.int x12]) (rest := [.int a3]) rb13 kb13 nt_15 q2692 yi_J2_get_java_util_ArrayList yk_J2_get rfl (by decide) (by decide) (Nat.le_trans (aw_i aw_0) (by decide)) rfl (mJ2_get C.st ex14) dX10_cost_60) ?_
          obtain ⟨_, e16, hf⟩ := oB hf
          refine v_cast (pc := 63) C q2688 ct__I e16 dX10_cost_63 ?_
          refine v_iconst (pc := 66) (v := (3 : Int32)) C dX10_cost_66 rfl ?_
          obtain ⟨x17, ex17, hf⟩ := oB hf
          refine v_iaload (pc := 67) C ex17 dX10_cost_67 ?_
          refine v_iadd (pc := 68) C dX10_cost_68 ?_
          obtain ⟨x18, ex18, hf⟩ := oB hf
          refine vst (Option.some.inj ex18) (fun z => .int z :: []) ?_
          refine v_istore_n (pc := 69) (lv' := [(3, false, .int x18), (0, false, va_rf a0), (1, false, .int a1), (2, false, .int a2), (4, false, .int a4)]) C dX10_cost_69 rfl (by decide) rfl ?_
          exact V.sub [1, 2, 3, 0, 4] rfl (vX10_cost_p70 X ih hf)
def fX10_cost (D : aD) (h : aH) (a0 : Option Nat) (a1 : Int32) (a2 : Int32) : Option (Int32) :=
  fX10_cost_p5 D h FU a0 a1 a2 (0 : Int32) (0 : Int32)
theorem vX10_cost {h : aH} {a0 : Option Nat} {a1 : Int32} {a2 : Int32} {q : Int32} (X : aX p l R s m meth c D n0 s0 yX10_cost cX10_cost 3 64 5 (some .int) h0) (hf : fX10_cost D h a0 a1 a2 = some q) : V p l e R s m args below meth c D n0 s0 (aEnd D below args s h0 (.inr (some (.int q)), h)) h 0 [(0, false, va_rf a0), (1, false, .int a1), (2, false, .int a2)] [] := by
  have C := X.1
  unfold fX10_cost at hf
  refine v_iconst (pc := 0) (v := (0 : Int32)) C dX10_cost_0 rfl ?_
  refine v_istore_n (pc := 1) (lv' := [(3, false, .int (0 : Int32)), (0, false, va_rf a0), (1, false, .int a1), (2, false, .int a2)]) C dX10_cost_1 rfl (by decide) rfl ?_
  refine v_iconst (pc := 2) (v := (0 : Int32)) C dX10_cost_2 rfl ?_
  refine v_istore (pc := 3) (lv' := [(4, false, .int (0 : Int32)), (3, false, .int (0 : Int32)), (0, false, va_rf a0), (1, false, .int a1), (2, false, .int a2)]) C dX10_cost_3 (by decide) rfl ?_
  exact V.sub [2, 3, 4, 1, 0] rfl (vX10_cost_p5 X _ _ _ _ _ _ _ hf)
theorem mX10_cost {l : Launch} {D : aD} {h : aH} {a0 : Option Nat} {a1 : Int32} {a2 : Int32} {q : Int32} (hst : l.stackTraces = false) (hf : fX10_cost D h a0 a1 a2 = some q) : aM l D yX10_cost cX10_cost 5 (some .int) 3 64 [va_rf a0, .int a1, .int a2] h (.inr (some (.int q)), h) :=
  aM.ofX [(false, va_rf a0), (false, .int a1), (false, .int a2)] rfl (ap_r (ap_c rfl (ap_c rfl ap_0))) (by decide +kernel) hst (al_of (aw_r (aw_i (aw_i aw_0))) (by decide)) fun p e s m args below meth c X => V.sub (lv' := [(0, false, va_rf a0), (1, false, .int a1), (2, false, .int a2)]) [0, 1, 2] rfl (vX10_cost X hf)
def fX10_arrange_p82 (D : aD) (K23 : aH → (Option Nat) → Int32 → (Option Nat) → Int32 → Option (aH)) (K37 : aH → (Option Nat) → Int32 → (Option Nat) → Int32 → Int32 → Option (aH)) (h : aH) (a0 : Option Nat) (a1 : Int32) (a3 : Option Nat) (a4 : Int32) (a5 : Int32) : Option (aH) :=
  K37 h a0 a1 a3 a4 (a5 + 1)
theorem vX10_arrange_p82 {h : aH} {K23 : aH → (Option Nat) → Int32 → (Option Nat) → Int32 → Option (aH)} {K37 : aH → (Option Nat) → Int32 → (Option Nat) → Int32 → Int32 → Option (aH)} {a0 : Option Nat} {a1 : Int32} {a3 : Option Nat} {a4 : Int32} {a5 : Int32} {g : aH} (X : aX p l R s m meth c D n0 s0 yX10_arrange cX10_arrange 4 88 7 (none) h0) (k23 : ∀ (h : aH) (a0 : Option Nat) (a1 : Int32) (a3 : Option Nat) (a4 : Int32) (g : aH), K23 h a0 a1 a3 a4 = some g → V p l e R s m args below meth c D n0 s0 (aEnd D below args s h0 (.inr none, g)) h 23 [(0, false, va_rf a0), (1, false, .int a1), (3, false, va_rf a3), (4, false, .int a4)] []) (k37 : ∀ (h : aH) (a0 : Option Nat) (a1 : Int32) (a3 : Option Nat) (a4 : Int32) (a5 : Int32) (g : aH), K37 h a0 a1 a3 a4 a5 = some g → V p l e R s m args below meth c D n0 s0 (aEnd D below args s h0 (.inr none, g)) h 37 [(0, false, va_rf a0), (1, false, .int a1), (3, false, va_rf a3), (4, false, .int a4), (5, false, .int a5)] []) (hf : fX10_arrange_p82 D K23 K37 h a0 a1 a3 a4 a5 = some g) : V p l e R s m args below meth c D n0 s0 (aEnd D below args s h0 (.inr none, g)) h 82 [(0, false, va_rf a0), (1, false, .int a1), (3, false, va_rf a3), (4, false, .int a4), (5, false, .int a5)] [] := by
  have C := X.1
  unfold fX10_arrange_p82 at hf
  refine v_iinc (pc := 82) (j := 4) (v := (a5 + 1)) (lv' := [(5, false, .int (a5 + 1)), (0, false, va_rf a0), (1, false, .int a1), (3, false, va_rf a3), (4, false, .int a4)]) C dX10_arrange_82 rfl rfl (by decide) rfl ?_
  refine v_goto (pc := 85) (tgt := 37) C dX10_arrange_85 rfl ?_
  exact V.sub [1, 2, 3, 4, 0] rfl (k37 _ _ _ _ _ _ _ hf)
def fX10_arrange_p88 (D : aD) (K23 : aH → (Option Nat) → Int32 → (Option Nat) → Int32 → Option (aH)) (h : aH) (a0 : Option Nat) (a1 : Int32) (a3 : Option Nat) (a4 : Int32) : Option (aH) :=
  K23 h a0 a1 a3 (a4 + (-1))
theorem vX10_arrange_p88 {h : aH} {K23 : aH → (Option Nat) → Int32 → (Option Nat) → Int32 → Option (aH)} {a0 : Option Nat} {a1 : Int32} {a3 : Option Nat} {a4 : Int32} {g : aH} (X : aX p l R s m meth c D n0 s0 yX10_arrange cX10_arrange 4 88 7 (none) h0) (k23 : ∀ (h : aH) (a0 : Option Nat) (a1 : Int32) (a3 : Option Nat) (a4 : Int32) (g : aH), K23 h a0 a1 a3 a4 = some g → V p l e R s m args below meth c D n0 s0 (aEnd D below args s h0 (.inr none, g)) h 23 [(0, false, va_rf a0), (1, false, .int a1), (3, false, va_rf a3), (4, false, .int a4)] []) (hf : fX10_arrange_p88 D K23 h a0 a1 a3 a4 = some g) : V p l e R s m args below meth c D n0 s0 (aEnd D below args s h0 (.inr none, g)) h 88 [(0, false, va_rf a0), (1, false, .int a1), (3, false, va_rf a3), (4, false, .int a4)] [] := by
  have C := X.1
  unfold fX10_arrange_p88 at hf
  refine v_iinc (pc := 88) (j := 3) (v := (a4 + (-1))) (lv' := [(4, false, .int (a4 + (-1))), (0, false, va_rf a0), (1, false, .int a1), (3, false, va_rf a3)]) C dX10_arrange_88 rfl rfl (by decide) rfl ?_
  refine v_goto (pc := 91) (tgt := 23) C dX10_arrange_91 rfl ?_
  exact V.sub [1, 2, 3, 0] rfl (k23 _ _ _ _ _ _ hf)
def fX10_arrange_p37 (D : aD) (K23 : aH → (Option Nat) → Int32 → (Option Nat) → Int32 → Option (aH)) : Nat → aH → (Option Nat) → Int32 → (Option Nat) → Int32 → Int32 → Option (aH)
  | 0, _, _, _, _, _, _ => none
  | n + 1, h, a0, a1, a3, a4, a5 =>
  if a1 ≤ a5 then
  (fX10_arrange_p88 D K23 h a0 a1 a3 a4)
  else
  (if ((a4 >>> (a5 &&& 31)) &&& (1 : Int32)) = 0 then
  ((eI h a3 a4).bind fun x1 =>
  (aIs h 9 a0).bind fun _ =>
  (fX10_cost D h a0 a4 a5).bind fun x3 =>
  (eI h a3 (a4 ||| ((1 : Int32) <<< (a5 &&& 31)))).bind fun x5 =>
  (fJ11_min D h x1 (x3 + x5)).bind fun x7 =>
  (sF D h 100 a3 a4 (.int x7)).bind fun h9 =>
  fX10_arrange_p82 D K23 (fX10_arrange_p37 D K23 n) h9 a0 a1 a3 a4 a5)
  else
  (fX10_arrange_p82 D K23 (fX10_arrange_p37 D K23 n) h a0 a1 a3 a4 a5))
theorem vX10_arrange_p37 {K23 : aH → (Option Nat) → Int32 → (Option Nat) → Int32 → Option (aH)} (X : aX p l R s m meth c D n0 s0 yX10_arrange cX10_arrange 4 88 7 (none) h0) (k23 : ∀ (h : aH) (a0 : Option Nat) (a1 : Int32) (a3 : Option Nat) (a4 : Int32) (g : aH), K23 h a0 a1 a3 a4 = some g → V p l e R s m args below meth c D n0 s0 (aEnd D below args s h0 (.inr none, g)) h 23 [(0, false, va_rf a0), (1, false, .int a1), (3, false, va_rf a3), (4, false, .int a4)] []) : ∀ (n : Nat) (h : aH) (a0 : Option Nat) (a1 : Int32) (a3 : Option Nat) (a4 : Int32) (a5 : Int32) (g : aH), fX10_arrange_p37 D K23 n h a0 a1 a3 a4 a5 = some g → V p l e R s m args below meth c D n0 s0 (aEnd D below args s h0 (.inr none, g)) h 37 [(0, false, va_rf a0), (1, false, .int a1), (3, false, va_rf a3), (4, false, .int a4), (5, false, .int a5)] [] := by
  have C := X.1
  intro n
  induction n with
  | zero =>
    intro _ _ _ _ _ _ _ hf
    rw [fX10_arrange_p37] at hf
    cases hf
  | succ n ih =>
    intro h a0 a1 a3 a4 a5 g hf
    rw [fX10_arrange_p37] at hf
    refine v_iload (pc := 37) (j := 4) C dX10_arrange_37 rfl ?_
    refine v_iload_n (pc := 39) (j := 1) C dX10_arrange_39 rfl rfl ?_
    refine v_icmp_ge (pc := 40) (tgt := 88) C dX10_arrange_40 rfl (fun hc => ?_) (fun hc => ?_)
    · rw [if_pos hc] at hf
      exact V.sub [0, 1, 2, 3] rfl (vX10_arrange_p88 X k23 hf)
    · rw [if_neg hc] at hf
      refine v_iload (pc := 43) (j := 3) C dX10_arrange_43 rfl ?_
      refine v_iload (pc := 45) (j := 4) C dX10_arrange_45 rfl ?_
      refine v_ishr (pc := 47) C dX10_arrange_47 ?_
      refine v_iconst (pc := 48) (v := (1 : Int32)) C dX10_arrange_48 rfl ?_
      refine v_iand (pc := 49) C dX10_arrange_49 ?_
      refine v_if_ne (pc := 50) (tgt := 82) C dX10_arrange_50 rfl (fun hc => ?_) (fun hc => ?_)
      · rw [if_neg hc] at hf
        exact V.sub [0, 1, 2, 3, 4] rfl (vX10_arrange_p82 X k23 ih hf)
      · rw [if_pos (Decidable.of_not_not hc)] at hf
        refine v_aload_n (pc := 53) (j := 2) C dX10_arrange_53 rfl rfl ?_
        refine v_iload (pc := 54) (j := 3) C dX10_arrange_54 rfl ?_
        refine v_aload_n (pc := 56) (j := 2) C dX10_arrange_56 rfl rfl ?_
        refine v_iload (pc := 57) (j := 3) C dX10_arrange_57 rfl ?_
        obtain ⟨x1, ex1, hf⟩ := oB hf
        refine v_iaload (pc := 59) C ex1 dX10_arrange_59 ?_
        refine v_aload_n (pc := 60) (j := 0) C dX10_arrange_60 rfl rfl ?_
        refine v_iload (pc := 61) (j := 3) C dX10_arrange_61 rfl ?_
        refine v_iload (pc := 63) (j := 4) C dX10_arrange_63 rfl ?_
        obtain ⟨b2, eb2, hf⟩ := oB hf
        obtain ⟨rb2, _, kb2⟩ := aIs_eq eb2
        obtain ⟨x3, ex3, hf⟩ := oB hf
        refine v_call (pc := 65) (d_V (pc := 65) C (As := [.int a4, .int a5]) (rest := [.int x1, .int a4, va_rf a3]) rb2 kb2 nt_9 q2703 yi_X10_cost_FigureSurveyModel_Found yk_X10_cost rfl (by decide) (by decide) (Nat.le_trans (aw_i (aw_i (aw_r aw_0))) (by decide)) rfl (mX10_cost C.st ex3) dX10_arrange_65) ?_
        refine v_aload_n (pc := 68) (j := 2) C dX10_arrange_68 rfl rfl ?_
        refine v_iload (pc := 69) (j := 3) C dX10_arrange_69 rfl ?_
        refine v_iconst (pc := 71) (v := (1 : Int32)) C dX10_arrange_71 rfl ?_
        refine v_iload (pc := 72) (j := 4) C dX10_arrange_72 rfl ?_
        refine v_ishl (pc := 74) C dX10_arrange_74 ?_
        refine v_ior (pc := 75) C dX10_arrange_75 ?_
        obtain ⟨x5, ex5, hf⟩ := oB hf
        refine v_iaload (pc := 76) C ex5 dX10_arrange_76 ?_
        refine v_iadd (pc := 77) C dX10_arrange_77 ?_
        obtain ⟨x7, ex7, hf⟩ := oB hf
        refine v_call (pc := 78) (d_S (pc := 78) C (As := [.int x1, .int (x3 + x5)]) (rest := [.int a4, va_rf a3]) q2707 q477 yk_J11_min rfl (by decide) (by decide) (Nat.le_trans (aw_i (aw_r aw_0)) (by decide)) rfl (mJ11_min C.st ex7) dX10_arrange_78) ?_
        obtain ⟨h9, eh9, hf⟩ := oB hf
        refine v_iastore (pc := 81) C eh9 dX10_arrange_81 ?_
        exact V.sub [0, 1, 2, 3, 4] rfl (vX10_arrange_p82 X k23 ih hf)
def fX10_arrange_p152 (D : aD) (K107 : aH → (Option Nat) → Int32 → (Option Nat) → Int32 → Int32 → Option (aH)) (K116 : aH → (Option Nat) → Int32 → (Option Nat) → Int32 → Int32 → Int32 → Option (aH)) (h : aH) (a0 : Option Nat) (a1 : Int32) (a3 : Option Nat) (a4 : Int32) (a5 : Int32) (a6 : Int32) : Option (aH) :=
  K116 h a0 a1 a3 a4 a5 (a6 + 1)
theorem vX10_arrange_p152 {h : aH} {K107 : aH → (Option Nat) → Int32 → (Option Nat) → Int32 → Int32 → Option (aH)} {K116 : aH → (Option Nat) → Int32 → (Option Nat) → Int32 → Int32 → Int32 → Option (aH)} {a0 : Option Nat} {a1 : Int32} {a3 : Option Nat} {a4 : Int32} {a5 : Int32} {a6 : Int32} {g : aH} (X : aX p l R s m meth c D n0 s0 yX10_arrange cX10_arrange 4 88 7 (none) h0) (k107 : ∀ (h : aH) (a0 : Option Nat) (a1 : Int32) (a3 : Option Nat) (a4 : Int32) (a5 : Int32) (g : aH), K107 h a0 a1 a3 a4 a5 = some g → V p l e R s m args below meth c D n0 s0 (aEnd D below args s h0 (.inr none, g)) h 107 [(0, false, va_rf a0), (1, false, .int a1), (3, false, va_rf a3), (4, false, .int a4), (5, false, .int a5)] []) (k116 : ∀ (h : aH) (a0 : Option Nat) (a1 : Int32) (a3 : Option Nat) (a4 : Int32) (a5 : Int32) (a6 : Int32) (g : aH), K116 h a0 a1 a3 a4 a5 a6 = some g → V p l e R s m args below meth c D n0 s0 (aEnd D below args s h0 (.inr none, g)) h 116 [(0, false, va_rf a0), (1, false, .int a1), (3, false, va_rf a3), (4, false, .int a4), (5, false, .int a5), (6, false, .int a6)] []) (hf : fX10_arrange_p152 D K107 K116 h a0 a1 a3 a4 a5 a6 = some g) : V p l e R s m args below meth c D n0 s0 (aEnd D below args s h0 (.inr none, g)) h 152 [(0, false, va_rf a0), (1, false, .int a1), (3, false, va_rf a3), (4, false, .int a4), (5, false, .int a5), (6, false, .int a6)] [] := by
  have C := X.1
  unfold fX10_arrange_p152 at hf
  refine v_iinc (pc := 152) (j := 5) (v := (a6 + 1)) (lv' := [(6, false, .int (a6 + 1)), (0, false, va_rf a0), (1, false, .int a1), (3, false, va_rf a3), (4, false, .int a4), (5, false, .int a5)]) C dX10_arrange_152 rfl rfl (by decide) rfl ?_
  refine v_goto (pc := 155) (tgt := 116) C dX10_arrange_155 rfl ?_
  exact V.sub [1, 2, 3, 4, 5, 0] rfl (k116 _ _ _ _ _ _ _ _ hf)
def fX10_arrange_p158 (D : aD) (K107 : aH → (Option Nat) → Int32 → (Option Nat) → Int32 → Int32 → Option (aH)) (h : aH) (a0 : Option Nat) (a1 : Int32) (a3 : Option Nat) (a4 : Int32) (a5 : Int32) (a6 : Int32) : Option (aH) :=
  (gR h 9 1 a0).bind fun x1 =>
  (sF D h 100 x1 a5 (.int a6)).bind fun h2 =>
  (some ((a4 ||| ((1 : Int32) <<< (a6 &&& 31))))).bind fun x3 =>
  K107 h2 a0 a1 a3 x3 (a5 + 1)
theorem vX10_arrange_p158 {h : aH} {K107 : aH → (Option Nat) → Int32 → (Option Nat) → Int32 → Int32 → Option (aH)} {a0 : Option Nat} {a1 : Int32} {a3 : Option Nat} {a4 : Int32} {a5 : Int32} {a6 : Int32} {g : aH} (X : aX p l R s m meth c D n0 s0 yX10_arrange cX10_arrange 4 88 7 (none) h0) (k107 : ∀ (h : aH) (a0 : Option Nat) (a1 : Int32) (a3 : Option Nat) (a4 : Int32) (a5 : Int32) (g : aH), K107 h a0 a1 a3 a4 a5 = some g → V p l e R s m args below meth c D n0 s0 (aEnd D below args s h0 (.inr none, g)) h 107 [(0, false, va_rf a0), (1, false, .int a1), (3, false, va_rf a3), (4, false, .int a4), (5, false, .int a5)] []) (hf : fX10_arrange_p158 D K107 h a0 a1 a3 a4 a5 a6 = some g) : V p l e R s m args below meth c D n0 s0 (aEnd D below args s h0 (.inr none, g)) h 158 [(0, false, va_rf a0), (1, false, .int a1), (3, false, va_rf a3), (4, false, .int a4), (5, false, .int a5), (6, false, .int a6)] [] := by
  have C := X.1
  unfold fX10_arrange_p158 at hf
  refine v_aload_n (pc := 158) (j := 0) C dX10_arrange_158 rfl rfl ?_
  obtain ⟨x1, ex1, hf⟩ := oB hf
  refine v_getF (pc := 159) C lk_X10_88 (gR_eq ex1) dX10_arrange_159 ?_
  refine v_iload (pc := 162) (j := 4) C dX10_arrange_162 rfl ?_
  refine v_iload (pc := 164) (j := 5) C dX10_arrange_164 rfl ?_
  obtain ⟨h2, eh2, hf⟩ := oB hf
  refine v_iastore (pc := 166) C eh2 dX10_arrange_166 ?_
  refine v_iload (pc := 167) (j := 3) C dX10_arrange_167 rfl ?_
  refine v_iconst (pc := 169) (v := (1 : Int32)) C dX10_arrange_169 rfl ?_
  refine v_iload (pc := 170) (j := 5) C dX10_arrange_170 rfl ?_
  refine v_ishl (pc := 172) C dX10_arrange_172 ?_
  refine v_ior (pc := 173) C dX10_arrange_173 ?_
  obtain ⟨x3, ex3, hf⟩ := oB hf
  refine vst (Option.some.inj ex3) (fun z => .int z :: []) ?_
  refine v_istore (pc := 174) (lv' := [(4, false, .int x3), (0, false, va_rf a0), (1, false, .int a1), (3, false, va_rf a3), (5, false, .int a5), (6, false, .int a6)]) C dX10_arrange_174 (by decide) rfl ?_
  refine v_iinc (pc := 176) (j := 4) (v := (a5 + 1)) (lv' := [(5, false, .int (a5 + 1)), (4, false, .int x3), (0, false, va_rf a0), (1, false, .int a1), (3, false, va_rf a3), (6, false, .int a6)]) C dX10_arrange_176 rfl rfl (by decide) rfl ?_
  refine v_goto (pc := 179) (tgt := 107) C dX10_arrange_179 rfl ?_
  exact V.sub [2, 3, 4, 1, 0] rfl (k107 _ _ _ _ _ _ _ hf)
def fX10_arrange_p116 (D : aD) (K107 : aH → (Option Nat) → Int32 → (Option Nat) → Int32 → Int32 → Option (aH)) : Nat → aH → (Option Nat) → Int32 → (Option Nat) → Int32 → Int32 → Int32 → Option (aH)
  | 0, _, _, _, _, _, _, _ => none
  | n + 1, h, a0, a1, a3, a4, a5, a6 =>
  if ((a4 >>> (a6 &&& 31)) &&& (1 : Int32)) = (1 : Int32) then
  (fX10_arrange_p152 D K107 (fX10_arrange_p116 D K107 n) h a0 a1 a3 a4 a5 a6)
  else
  ((aIs h 9 a0).bind fun _ =>
  (fX10_cost D h a0 a4 a6).bind fun x2 =>
  (eI h a3 (a4 ||| ((1 : Int32) <<< (a6 &&& 31)))).bind fun x4 =>
  (eI h a3 a4).bind fun x5 =>
  if (x2 + x4) = x5 then
  (fX10_arrange_p158 D K107 h a0 a1 a3 a4 a5 a6)
  else
  (fX10_arrange_p152 D K107 (fX10_arrange_p116 D K107 n) h a0 a1 a3 a4 a5 a6))
theorem vX10_arrange_p116 {K107 : aH → (Option Nat) → Int32 → (Option Nat) → Int32 → Int32 → Option (aH)} (X : aX p l R s m meth c D n0 s0 yX10_arrange cX10_arrange 4 88 7 (none) h0) (k107 : ∀ (h : aH) (a0 : Option Nat) (a1 : Int32) (a3 : Option Nat) (a4 : Int32) (a5 : Int32) (g : aH), K107 h a0 a1 a3 a4 a5 = some g → V p l e R s m args below meth c D n0 s0 (aEnd D below args s h0 (.inr none, g)) h 107 [(0, false, va_rf a0), (1, false, .int a1), (3, false, va_rf a3), (4, false, .int a4), (5, false, .int a5)] []) : ∀ (n : Nat) (h : aH) (a0 : Option Nat) (a1 : Int32) (a3 : Option Nat) (a4 : Int32) (a5 : Int32) (a6 : Int32) (g : aH), fX10_arrange_p116 D K107 n h a0 a1 a3 a4 a5 a6 = some g → V p l e R s m args below meth c D n0 s0 (aEnd D below args s h0 (.inr none, g)) h 116 [(0, false, va_rf a0), (1, false, .int a1), (3, false, va_rf a3), (4, false, .int a4), (5, false, .int a5), (6, false, .int a6)] [] := by
  have C := X.1
  intro n
  induction n with
  | zero =>
    intro _ _ _ _ _ _ _ _ hf
    rw [fX10_arrange_p116] at hf
    cases hf
  | succ n ih =>
    intro h a0 a1 a3 a4 a5 a6 g hf
    rw [fX10_arrange_p116] at hf
    refine v_iload (pc := 116) (j := 3) C dX10_arrange_116 rfl ?_
    refine v_iload (pc := 118) (j := 5) C dX10_arrange_118 rfl ?_
    refine v_ishr (pc := 120) C dX10_arrange_120 ?_
    refine v_iconst (pc := 121) (v := (1 : Int32)) C dX10_arrange_121 rfl ?_
    refine v_iand (pc := 122) C dX10_arrange_122 ?_
    refine v_iconst (pc := 123) (v := (1 : Int32)) C dX10_arrange_123 rfl ?_
    refine v_icmp_eq (pc := 124) (tgt := 152) C dX10_arrange_124 rfl (fun hc => ?_) (fun hc => ?_)
    · rw [if_pos hc] at hf
      exact V.sub [0, 1, 2, 3, 4, 5] rfl (vX10_arrange_p152 X k107 ih hf)
    · rw [if_neg hc] at hf
      refine v_aload_n (pc := 127) (j := 0) C dX10_arrange_127 rfl rfl ?_
      refine v_iload (pc := 128) (j := 3) C dX10_arrange_128 rfl ?_
      refine v_iload (pc := 130) (j := 5) C dX10_arrange_130 rfl ?_
      obtain ⟨b1, eb1, hf⟩ := oB hf
      obtain ⟨rb1, _, kb1⟩ := aIs_eq eb1
      obtain ⟨x2, ex2, hf⟩ := oB hf
      refine v_call (pc := 132) (d_V (pc := 132) C (As := [.int a4, .int a6]) (rest := []) rb1 kb1 nt_9 q2703 yi_X10_cost_FigureSurveyModel_Found yk_X10_cost rfl (by decide) (by decide) (Nat.le_trans aw_0 (by decide)) rfl (mX10_cost C.st ex2) dX10_arrange_132) ?_
      refine v_aload_n (pc := 135) (j := 2) C dX10_arrange_135 rfl rfl ?_
      refine v_iload (pc := 136) (j := 3) C dX10_arrange_136 rfl ?_
      refine v_iconst (pc := 138) (v := (1 : Int32)) C dX10_arrange_138 rfl ?_
      refine v_iload (pc := 139) (j := 5) C dX10_arrange_139 rfl ?_
      refine v_ishl (pc := 141) C dX10_arrange_141 ?_
      refine v_ior (pc := 142) C dX10_arrange_142 ?_
      obtain ⟨x4, ex4, hf⟩ := oB hf
      refine v_iaload (pc := 143) C ex4 dX10_arrange_143 ?_
      refine v_iadd (pc := 144) C dX10_arrange_144 ?_
      refine v_aload_n (pc := 145) (j := 2) C dX10_arrange_145 rfl rfl ?_
      refine v_iload (pc := 146) (j := 3) C dX10_arrange_146 rfl ?_
      obtain ⟨x5, ex5, hf⟩ := oB hf
      refine v_iaload (pc := 148) C ex5 dX10_arrange_148 ?_
      refine v_icmp_eq (pc := 149) (tgt := 158) C dX10_arrange_149 rfl (fun hc => ?_) (fun hc => ?_)
      · rw [if_pos hc] at hf
        exact V.sub [0, 1, 2, 3, 4, 5] rfl (vX10_arrange_p158 X k107 hf)
      · rw [if_neg hc] at hf
        exact V.sub [0, 1, 2, 3, 4, 5] rfl (vX10_arrange_p152 X k107 ih hf)
def fX10_arrange_p107 (D : aD) : Nat → aH → (Option Nat) → Int32 → (Option Nat) → Int32 → Int32 → Option (aH)
  | 0, _, _, _, _, _, _ => none
  | n + 1, h, a0, a1, a3, a4, a5 =>
  if a1 ≤ a5 then
  (some h)
  else
  (fX10_arrange_p116 D (fX10_arrange_p107 D n) FU h a0 a1 a3 a4 a5 (0 : Int32))
theorem vX10_arrange_p107 (X : aX p l R s m meth c D n0 s0 yX10_arrange cX10_arrange 4 88 7 (none) h0) : ∀ (n : Nat) (h : aH) (a0 : Option Nat) (a1 : Int32) (a3 : Option Nat) (a4 : Int32) (a5 : Int32) (g : aH), fX10_arrange_p107 D n h a0 a1 a3 a4 a5 = some g → V p l e R s m args below meth c D n0 s0 (aEnd D below args s h0 (.inr none, g)) h 107 [(0, false, va_rf a0), (1, false, .int a1), (3, false, va_rf a3), (4, false, .int a4), (5, false, .int a5)] [] := by
  have C := X.1
  intro n
  induction n with
  | zero =>
    intro _ _ _ _ _ _ _ hf
    rw [fX10_arrange_p107] at hf
    cases hf
  | succ n ih =>
    intro h a0 a1 a3 a4 a5 g hf
    rw [fX10_arrange_p107] at hf
    refine v_iload (pc := 107) (j := 4) C dX10_arrange_107 rfl ?_
    refine v_iload_n (pc := 109) (j := 1) C dX10_arrange_109 rfl rfl ?_
    refine v_icmp_ge (pc := 110) (tgt := 182) C dX10_arrange_110 rfl (fun hc => ?_) (fun hc => ?_)
    · rw [if_pos hc] at hf
      cases hf
      exact v_return (pc := 182) C X.2.1 X.2.2.1 X.2.2.2.1 rfl dX10_arrange_182
    · rw [if_neg hc] at hf
      refine v_iconst (pc := 113) (v := (0 : Int32)) C dX10_arrange_113 rfl ?_
      refine v_istore (pc := 114) (lv' := [(6, false, .int (0 : Int32)), (0, false, va_rf a0), (1, false, .int a1), (3, false, va_rf a3), (4, false, .int a4), (5, false, .int a5)]) C dX10_arrange_114 (by decide) rfl ?_
      exact V.sub [1, 2, 3, 4, 5, 0] rfl (vX10_arrange_p116 X ih _ _ _ _ _ _ _ _ _ hf)
def fX10_arrange_p94 (D : aD) (h : aH) (a0 : Option Nat) (a1 : Int32) (a3 : Option Nat) : Option (aH) :=
  (aMkA D h 100 a1 (.int 0)).bind fun h1 =>
  (pF D h1 9 1 a0 (va_rf (some h.1))).bind fun h2 =>
  fX10_arrange_p107 D FU h2 a0 a1 a3 (0 : Int32) (0 : Int32)
theorem vX10_arrange_p94 {h : aH} {a0 : Option Nat} {a1 : Int32} {a3 : Option Nat} {g : aH} (X : aX p l R s m meth c D n0 s0 yX10_arrange cX10_arrange 4 88 7 (none) h0) (hf : fX10_arrange_p94 D h a0 a1 a3 = some g) : V p l e R s m args below meth c D n0 s0 (aEnd D below args s h0 (.inr none, g)) h 94 [(0, false, va_rf a0), (1, false, .int a1), (3, false, va_rf a3)] [] := by
  have C := X.1
  unfold fX10_arrange_p94 at hf
  refine v_aload_n (pc := 94) (j := 0) C dX10_arrange_94 rfl rfl ?_
  refine v_iload_n (pc := 95) (j := 1) C dX10_arrange_95 rfl rfl ?_
  obtain ⟨h1, eh1, hf⟩ := oB hf
  refine v_newarray (pc := 96) (t := 100) (v := .int 0) C q169 rfl rfl (by decide) (by decide) rfl eh1 dX10_arrange_96 ?_
  obtain ⟨h2, eh2, hf⟩ := oB hf
  refine v_putF (pc := 98) C lk_X10_88 tyX10 tyX10_ok nmX10 (tyX10_ok 1 (by decide)) rfl ft_a eh2 dX10_arrange_98 ?_
  refine v_iconst (pc := 101) (v := (0 : Int32)) C dX10_arrange_101 rfl ?_
  refine v_istore (pc := 102) (lv' := [(4, false, .int (0 : Int32)), (0, false, va_rf a0), (1, false, .int a1), (3, false, va_rf a3)]) C dX10_arrange_102 (by decide) rfl ?_
  refine v_iconst (pc := 104) (v := (0 : Int32)) C dX10_arrange_104 rfl ?_
  refine v_istore (pc := 105) (lv' := [(5, false, .int (0 : Int32)), (4, false, .int (0 : Int32)), (0, false, va_rf a0), (1, false, .int a1), (3, false, va_rf a3)]) C dX10_arrange_105 (by decide) rfl ?_
  exact V.sub [2, 3, 4, 1, 0] rfl (vX10_arrange_p107 X _ _ _ _ _ _ _ _ hf)
def fX10_arrange_p23 (D : aD) : Nat → aH → (Option Nat) → Int32 → (Option Nat) → Int32 → Option (aH)
  | 0, _, _, _, _, _ => none
  | n + 1, h, a0, a1, a3, a4 =>
  if a4 < 0 then
  (fX10_arrange_p94 D h a0 a1 a3)
  else
  ((sF D h 100 a3 a4 (.int (2147483647 : Int32))).bind fun h1 =>
  fX10_arrange_p37 D (fX10_arrange_p23 D n) FU h1 a0 a1 a3 a4 (0 : Int32))
theorem vX10_arrange_p23 (X : aX p l R s m meth c D n0 s0 yX10_arrange cX10_arrange 4 88 7 (none) h0) : ∀ (n : Nat) (h : aH) (a0 : Option Nat) (a1 : Int32) (a3 : Option Nat) (a4 : Int32) (g : aH), fX10_arrange_p23 D n h a0 a1 a3 a4 = some g → V p l e R s m args below meth c D n0 s0 (aEnd D below args s h0 (.inr none, g)) h 23 [(0, false, va_rf a0), (1, false, .int a1), (3, false, va_rf a3), (4, false, .int a4)] [] := by
  have C := X.1
  intro n
  induction n with
  | zero =>
    intro _ _ _ _ _ _ hf
    rw [fX10_arrange_p23] at hf
    cases hf
  | succ n ih =>
    intro h a0 a1 a3 a4 g hf
    rw [fX10_arrange_p23] at hf
    refine v_iload (pc := 23) (j := 3) C dX10_arrange_23 rfl ?_
    refine v_if_lt (pc := 25) (tgt := 94) C dX10_arrange_25 rfl (fun hc => ?_) (fun hc => ?_)
    · rw [if_pos hc] at hf
      exact V.sub [0, 1, 2] rfl (vX10_arrange_p94 X hf)
    · rw [if_neg hc] at hf
      refine v_aload_n (pc := 28) (j := 2) C dX10_arrange_28 rfl rfl ?_
      refine v_iload (pc := 29) (j := 3) C dX10_arrange_29 rfl ?_
      refine v_ldc (pc := 31) (v := (2147483647 : Int32)) C q2702 dX10_arrange_31 ?_
      obtain ⟨h1, eh1, hf⟩ := oB hf
      refine v_iastore (pc := 33) C eh1 dX10_arrange_33 ?_
      refine v_iconst (pc := 34) (v := (0 : Int32)) C dX10_arrange_34 rfl ?_
      refine v_istore (pc := 35) (lv' := [(5, false, .int (0 : Int32)), (0, false, va_rf a0), (1, false, .int a1), (3, false, va_rf a3), (4, false, .int a4)]) C dX10_arrange_35 (by decide) rfl ?_
      exact V.sub [1, 2, 3, 4, 0] rfl (vX10_arrange_p37 X ih _ _ _ _ _ _ _ _ hf)
def fX10_arrange (D : aD) (h : aH) (a0 : Option Nat) : Option (aH) :=
  (gR h 9 0 a0).bind fun x1 =>
  (eN h x1).bind fun x2 =>
  (some ((((1 : Int32) <<< (x2 &&& 31)) - (1 : Int32)))).bind fun x3 =>
  (aMkA D h 100 (x3 + (1 : Int32)) (.int 0)).bind fun h4 =>
  (some ((x3 - (1 : Int32)))).bind fun x5 =>
  fX10_arrange_p23 D FU h4 a0 x2 (some h.1) x5
theorem vX10_arrange {h : aH} {a0 : Option Nat} {g : aH} (X : aX p l R s m meth c D n0 s0 yX10_arrange cX10_arrange 4 88 7 (none) h0) (hf : fX10_arrange D h a0 = some g) : V p l e R s m args below meth c D n0 s0 (aEnd D below args s h0 (.inr none, g)) h 0 [(0, false, va_rf a0)] [] := by
  have C := X.1
  unfold fX10_arrange at hf
  refine v_aload_n (pc := 0) (j := 0) C dX10_arrange_0 rfl rfl ?_
  obtain ⟨x1, ex1, hf⟩ := oB hf
  refine v_getF (pc := 1) C lk_X10_48 (gR_eq ex1) dX10_arrange_1 ?_
  obtain ⟨x2, ex2, hf⟩ := oB hf
  refine v_alen (pc := 4) C ex2 dX10_arrange_4 ?_
  refine v_istore_n (pc := 5) (lv' := [(1, false, .int x2), (0, false, va_rf a0)]) C dX10_arrange_5 rfl (by decide) rfl ?_
  refine v_iconst (pc := 6) (v := (1 : Int32)) C dX10_arrange_6 rfl ?_
  refine v_iload_n (pc := 7) (j := 0) C dX10_arrange_7 rfl rfl ?_
  refine v_ishl (pc := 8) C dX10_arrange_8 ?_
  refine v_iconst (pc := 9) (v := (1 : Int32)) C dX10_arrange_9 rfl ?_
  refine v_isub (pc := 10) C dX10_arrange_10 ?_
  obtain ⟨x3, ex3, hf⟩ := oB hf
  refine vst (Option.some.inj ex3) (fun z => .int z :: []) ?_
  refine v_istore_n (pc := 11) (lv' := [(2, false, .int x3), (1, false, .int x2), (0, false, va_rf a0)]) C dX10_arrange_11 rfl (by decide) rfl ?_
  refine v_iload_n (pc := 12) (j := 0) C dX10_arrange_12 rfl rfl ?_
  refine v_iconst (pc := 13) (v := (1 : Int32)) C dX10_arrange_13 rfl ?_
  refine v_iadd (pc := 14) C dX10_arrange_14 ?_
  obtain ⟨h4, eh4, hf⟩ := oB hf
  refine v_newarray (pc := 15) (t := 100) (v := .int 0) C q169 rfl rfl (by decide) (by decide) rfl eh4 dX10_arrange_15 ?_
  refine v_astore_n (pc := 17) (lv' := [(3, false, va_rf (some h.1)), (2, false, .int x3), (1, false, .int x2), (0, false, va_rf a0)]) C dX10_arrange_17 rfl (by decide) rfl ?_
  refine v_iload_n (pc := 18) (j := 1) C dX10_arrange_18 rfl rfl ?_
  refine v_iconst (pc := 19) (v := (1 : Int32)) C dX10_arrange_19 rfl ?_
  refine v_isub (pc := 20) C dX10_arrange_20 ?_
  obtain ⟨x5, ex5, hf⟩ := oB hf
  refine vst (Option.some.inj ex5) (fun z => .int z :: []) ?_
  refine v_istore (pc := 21) (lv' := [(4, false, .int x5), (3, false, va_rf (some h.1)), (2, false, .int x3), (1, false, .int x2), (0, false, va_rf a0)]) C dX10_arrange_21 (by decide) rfl ?_
  exact V.sub [4, 3, 1, 0] rfl (vX10_arrange_p23 X _ _ _ _ _ _ _ hf)
theorem mX10_arrange {l : Launch} {D : aD} {h : aH} {a0 : Option Nat} {g : aH} (hst : l.stackTraces = false) (hf : fX10_arrange D h a0 = some g) : aM l D yX10_arrange cX10_arrange 7 (none) 4 88 [va_rf a0] h (.inr none, g) :=
  aM.ofX [(false, va_rf a0)] rfl (ap_r ap_0) (by decide +kernel) hst (al_of (aw_r aw_0) (by decide)) fun p e s m args below meth c X => V.sub (lv' := [(0, false, va_rf a0)]) [0] rfl (vX10_arrange X hf)
def fX10_climb_p118 (D : aD) (K34 : aH → (Option Nat) → Int32 → (Option Nat) → Int32 → Option (aH)) (h : aH) (a0 : Option Nat) (a1 : Int32) (a2 : Option Nat) (a3 : Int32) (t0 : Option Nat) (t1 : Int32) (t2 : Int32) (t3 : Int32) : Option (aH) :=
  (ckZ (t2 ||| t3)).bind fun _ =>
  (sF D h 102 t0 t1 (.int (t2 ||| t3))).bind fun h1 =>
  K34 h1 a0 a1 a2 (a3 + 1)
theorem vX10_climb_p118 {h : aH} {K34 : aH → (Option Nat) → Int32 → (Option Nat) → Int32 → Option (aH)} {a0 : Option Nat} {a1 : Int32} {a2 : Option Nat} {a3 : Int32} {t0 : Option Nat} {t1 : Int32} {t2 : Int32} {t3 : Int32} {g : aH} (X : aX p l R s m meth c D n0 s0 yX10_climb cX10_climb 0 0 6 (none) h0) (k34 : ∀ (h : aH) (a0 : Option Nat) (a1 : Int32) (a2 : Option Nat) (a3 : Int32) (g : aH), K34 h a0 a1 a2 a3 = some g → V p l e R s m args below meth c D n0 s0 (aEnd D below args s h0 (.inr none, g)) h 34 [(0, false, va_rf a0), (1, false, .int a1), (2, false, va_rf a2), (3, false, .int a3)] []) (hf : fX10_climb_p118 D K34 h a0 a1 a2 a3 t0 t1 t2 t3 = some g) : V p l e R s m args below meth c D n0 s0 (aEnd D below args s h0 (.inr none, g)) h 118 [(0, false, va_rf a0), (1, false, .int a1), (2, false, va_rf a2), (3, false, .int a3)] [.int t3, .int t2, .int t1, va_rf t0] := by
  have C := X.1
  unfold fX10_climb_p118 at hf
  refine v_ior (pc := 118) C dX10_climb_118 ?_
  obtain ⟨_, zh1, hf⟩ := oB hf
  obtain ⟨h1, eh1, hf⟩ := oB hf
  refine v_bastore (pc := 119) C (ckZ_eq zh1) eh1 dX10_climb_119 ?_
  refine v_iinc (pc := 120) (j := 3) (v := (a3 + 1)) (lv' := [(3, false, .int (a3 + 1)), (0, false, va_rf a0), (1, false, .int a1), (2, false, va_rf a2)]) C dX10_climb_120 rfl rfl (by decide) rfl ?_
  refine v_goto (pc := 123) (tgt := 34) C dX10_climb_123 rfl ?_
  exact V.sub [1, 2, 3, 0] rfl (k34 _ _ _ _ _ _ hf)
def fX10_climb_p90 (D : aD) (K34 : aH → (Option Nat) → Int32 → (Option Nat) → Int32 → Option (aH)) (h : aH) (a0 : Option Nat) (a1 : Int32) (a2 : Option Nat) (a3 : Int32) (a4 : Int32) (a5 : Int32) (t0 : Option Nat) (t1 : Int32) (t2 : Int32) : Option (aH) :=
  (ckZ t2).bind fun _ =>
  (sF D h 102 t0 t1 (.int t2)).bind fun h1 =>
  (gR h1 9 6 a0).bind fun x2 =>
  (eR h1 x2 a4).bind fun x3 =>
  (eZ h1 x3 a5).bind fun x4 =>
  (eI h1 a2 a4).bind fun x5 =>
  (eI h1 a2 a5).bind fun x6 =>
  fX10_climb_p118 D K34 h1 a0 a1 a2 a3 x3 a5 x4 (if x5 ≤ x6 then (0 : Int32) else (1 : Int32))
theorem vX10_climb_p90 {h : aH} {K34 : aH → (Option Nat) → Int32 → (Option Nat) → Int32 → Option (aH)} {a0 : Option Nat} {a1 : Int32} {a2 : Option Nat} {a3 : Int32} {a4 : Int32} {a5 : Int32} {t0 : Option Nat} {t1 : Int32} {t2 : Int32} {g : aH} (X : aX p l R s m meth c D n0 s0 yX10_climb cX10_climb 0 0 6 (none) h0) (k34 : ∀ (h : aH) (a0 : Option Nat) (a1 : Int32) (a2 : Option Nat) (a3 : Int32) (g : aH), K34 h a0 a1 a2 a3 = some g → V p l e R s m args below meth c D n0 s0 (aEnd D below args s h0 (.inr none, g)) h 34 [(0, false, va_rf a0), (1, false, .int a1), (2, false, va_rf a2), (3, false, .int a3)] []) (hf : fX10_climb_p90 D K34 h a0 a1 a2 a3 a4 a5 t0 t1 t2 = some g) : V p l e R s m args below meth c D n0 s0 (aEnd D below args s h0 (.inr none, g)) h 90 [(0, false, va_rf a0), (1, false, .int a1), (2, false, va_rf a2), (3, false, .int a3), (4, false, .int a4), (5, false, .int a5)] [.int t2, .int t1, va_rf t0] := by
  have C := X.1
  unfold fX10_climb_p90 at hf
  obtain ⟨_, zh1, hf⟩ := oB hf
  obtain ⟨h1, eh1, hf⟩ := oB hf
  refine v_bastore (pc := 90) C (ckZ_eq zh1) eh1 dX10_climb_90 ?_
  refine v_aload_n (pc := 91) (j := 0) C dX10_climb_91 rfl rfl ?_
  obtain ⟨x2, ex2, hf⟩ := oB hf
  refine v_getF (pc := 92) C lk_X10_64 (gR_eq ex2) dX10_climb_92 ?_
  refine v_iload (pc := 95) (j := 4) C dX10_climb_95 rfl ?_
  obtain ⟨x3, ex3, hf⟩ := oB hf
  refine v_aaload (pc := 97) C ex3 dX10_climb_97 ?_
  refine v_iload (pc := 98) (j := 5) C dX10_climb_98 rfl ?_
  refine v_dup2_11 (pc := 100) C dX10_climb_100 rfl (va_rfc _) ?_
  obtain ⟨x4, ex4, hf⟩ := oB hf
  refine v_baload (pc := 101) C ex4 dX10_climb_101 ?_
  refine v_aload_n (pc := 102) (j := 2) C dX10_climb_102 rfl rfl ?_
  refine v_iload (pc := 103) (j := 4) C dX10_climb_103 rfl ?_
  obtain ⟨x5, ex5, hf⟩ := oB hf
  refine v_iaload (pc := 105) C ex5 dX10_climb_105 ?_
  refine v_aload_n (pc := 106) (j := 2) C dX10_climb_106 rfl rfl ?_
  refine v_iload (pc := 107) (j := 5) C dX10_climb_107 rfl ?_
  obtain ⟨x6, ex6, hf⟩ := oB hf
  refine v_iaload (pc := 109) C ex6 dX10_climb_109 ?_
  refine v_icmp_le (pc := 110) (tgt := 117) C dX10_climb_110 rfl (fun hc => ?_) (fun hc => ?_)
  · simp only [if_pos hc] at hf
    refine v_iconst (pc := 117) (v := (0 : Int32)) C dX10_climb_117 rfl ?_
    exact V.sub [0, 1, 2, 3] rfl (vX10_climb_p118 X k34 hf)
  · simp only [if_neg hc] at hf
    refine v_iconst (pc := 113) (v := (1 : Int32)) C dX10_climb_113 rfl ?_
    refine v_goto (pc := 114) (tgt := 118) C dX10_climb_114 rfl ?_
    exact V.sub [0, 1, 2, 3] rfl (vX10_climb_p118 X k34 hf)
def fX10_climb_p191 (D : aD) (K128 : aH → (Option Nat) → Int32 → Int32 → Option (aH)) (K136 : aH → (Option Nat) → Int32 → Int32 → Int32 → Option (aH)) (K145 : aH → (Option Nat) → Int32 → Int32 → Int32 → Int32 → Option (aH)) (h : aH) (a0 : Option Nat) (a1 : Int32) (a3 : Int32) (a4 : Int32) (a5 : Int32) (t0 : Option Nat) (t1 : Int32) (t2 : Int32) (t3 : Int32) : Option (aH) :=
  (ckZ (t2 ||| t3)).bind fun _ =>
  (sF D h 102 t0 t1 (.int (t2 ||| t3))).bind fun h1 =>
  K145 h1 a0 a1 a3 a4 (a5 + 1)
theorem vX10_climb_p191 {h : aH} {K128 : aH → (Option Nat) → Int32 → Int32 → Option (aH)} {K136 : aH → (Option Nat) → Int32 → Int32 → Int32 → Option (aH)} {K145 : aH → (Option Nat) → Int32 → Int32 → Int32 → Int32 → Option (aH)} {a0 : Option Nat} {a1 : Int32} {a3 : Int32} {a4 : Int32} {a5 : Int32} {t0 : Option Nat} {t1 : Int32} {t2 : Int32} {t3 : Int32} {g : aH} (X : aX p l R s m meth c D n0 s0 yX10_climb cX10_climb 0 0 6 (none) h0) (k128 : ∀ (h : aH) (a0 : Option Nat) (a1 : Int32) (a3 : Int32) (g : aH), K128 h a0 a1 a3 = some g → V p l e R s m args below meth c D n0 s0 (aEnd D below args s h0 (.inr none, g)) h 128 [(0, false, va_rf a0), (1, false, .int a1), (3, false, .int a3)] []) (k136 : ∀ (h : aH) (a0 : Option Nat) (a1 : Int32) (a3 : Int32) (a4 : Int32) (g : aH), K136 h a0 a1 a3 a4 = some g → V p l e R s m args below meth c D n0 s0 (aEnd D below args s h0 (.inr none, g)) h 136 [(0, false, va_rf a0), (1, false, .int a1), (3, false, .int a3), (4, false, .int a4)] []) (k145 : ∀ (h : aH) (a0 : Option Nat) (a1 : Int32) (a3 : Int32) (a4 : Int32) (a5 : Int32) (g : aH), K145 h a0 a1 a3 a4 a5 = some g → V p l e R s m args below meth c D n0 s0 (aEnd D below args s h0 (.inr none, g)) h 145 [(0, false, va_rf a0), (1, false, .int a1), (3, false, .int a3), (4, false, .int a4), (5, false, .int a5)] []) (hf : fX10_climb_p191 D K128 K136 K145 h a0 a1 a3 a4 a5 t0 t1 t2 t3 = some g) : V p l e R s m args below meth c D n0 s0 (aEnd D below args s h0 (.inr none, g)) h 191 [(0, false, va_rf a0), (1, false, .int a1), (3, false, .int a3), (4, false, .int a4), (5, false, .int a5)] [.int t3, .int t2, .int t1, va_rf t0] := by
  have C := X.1
  unfold fX10_climb_p191 at hf
  refine v_ior (pc := 191) C dX10_climb_191 ?_
  obtain ⟨_, zh1, hf⟩ := oB hf
  obtain ⟨h1, eh1, hf⟩ := oB hf
  refine v_bastore (pc := 192) C (ckZ_eq zh1) eh1 dX10_climb_192 ?_
  refine v_iinc (pc := 193) (j := 4) (v := (a5 + 1)) (lv' := [(5, false, .int (a5 + 1)), (0, false, va_rf a0), (1, false, .int a1), (3, false, .int a3), (4, false, .int a4)]) C dX10_climb_193 rfl rfl (by decide) rfl ?_
  refine v_goto (pc := 196) (tgt := 145) C dX10_climb_196 rfl ?_
  exact V.sub [1, 2, 3, 4, 0] rfl (k145 _ _ _ _ _ _ _ hf)
def fX10_climb_p199 (D : aD) (K128 : aH → (Option Nat) → Int32 → Int32 → Option (aH)) (K136 : aH → (Option Nat) → Int32 → Int32 → Int32 → Option (aH)) (h : aH) (a0 : Option Nat) (a1 : Int32) (a3 : Int32) (a4 : Int32) : Option (aH) :=
  K136 h a0 a1 a3 (a4 + 1)
theorem vX10_climb_p199 {h : aH} {K128 : aH → (Option Nat) → Int32 → Int32 → Option (aH)} {K136 : aH → (Option Nat) → Int32 → Int32 → Int32 → Option (aH)} {a0 : Option Nat} {a1 : Int32} {a3 : Int32} {a4 : Int32} {g : aH} (X : aX p l R s m meth c D n0 s0 yX10_climb cX10_climb 0 0 6 (none) h0) (k128 : ∀ (h : aH) (a0 : Option Nat) (a1 : Int32) (a3 : Int32) (g : aH), K128 h a0 a1 a3 = some g → V p l e R s m args below meth c D n0 s0 (aEnd D below args s h0 (.inr none, g)) h 128 [(0, false, va_rf a0), (1, false, .int a1), (3, false, .int a3)] []) (k136 : ∀ (h : aH) (a0 : Option Nat) (a1 : Int32) (a3 : Int32) (a4 : Int32) (g : aH), K136 h a0 a1 a3 a4 = some g → V p l e R s m args below meth c D n0 s0 (aEnd D below args s h0 (.inr none, g)) h 136 [(0, false, va_rf a0), (1, false, .int a1), (3, false, .int a3), (4, false, .int a4)] []) (hf : fX10_climb_p199 D K128 K136 h a0 a1 a3 a4 = some g) : V p l e R s m args below meth c D n0 s0 (aEnd D below args s h0 (.inr none, g)) h 199 [(0, false, va_rf a0), (1, false, .int a1), (3, false, .int a3), (4, false, .int a4)] [] := by
  have C := X.1
  unfold fX10_climb_p199 at hf
  refine v_iinc (pc := 199) (j := 3) (v := (a4 + 1)) (lv' := [(4, false, .int (a4 + 1)), (0, false, va_rf a0), (1, false, .int a1), (3, false, .int a3)]) C dX10_climb_199 rfl rfl (by decide) rfl ?_
  refine v_goto (pc := 202) (tgt := 136) C dX10_climb_202 rfl ?_
  exact V.sub [1, 2, 3, 0] rfl (k136 _ _ _ _ _ _ hf)
def fX10_climb_p145 (D : aD) (K128 : aH → (Option Nat) → Int32 → Int32 → Option (aH)) (K136 : aH → (Option Nat) → Int32 → Int32 → Int32 → Option (aH)) : Nat → aH → (Option Nat) → Int32 → Int32 → Int32 → Int32 → Option (aH)
  | 0, _, _, _, _, _, _ => none
  | n + 1, h, a0, a1, a3, a4, a5 =>
  if a1 ≤ a5 then
  (fX10_climb_p199 D K128 K136 h a0 a1 a3 a4)
  else
  ((gR h 9 6 a0).bind fun x1 =>
  (eR h x1 a4).bind fun x2 =>
  (eZ h x2 a5).bind fun x3 =>
  (gR h 9 6 a0).bind fun x4 =>
  (eR h x4 a4).bind fun x5 =>
  (eZ h x5 a3).bind fun x6 =>
  if x6 = 0 then
  (fX10_climb_p191 D K128 K136 (fX10_climb_p145 D K128 K136 n) h a0 a1 a3 a4 a5 x2 a5 x3 (0 : Int32))
  else
  ((gR h 9 6 a0).bind fun x7 =>
  (eR h x7 a3).bind fun x8 =>
  (eZ h x8 a5).bind fun x9 =>
  fX10_climb_p191 D K128 K136 (fX10_climb_p145 D K128 K136 n) h a0 a1 a3 a4 a5 x2 a5 x3 (if x9 = 0 then (0 : Int32) else (1 : Int32))))
theorem vX10_climb_p145 {K128 : aH → (Option Nat) → Int32 → Int32 → Option (aH)} {K136 : aH → (Option Nat) → Int32 → Int32 → Int32 → Option (aH)} (X : aX p l R s m meth c D n0 s0 yX10_climb cX10_climb 0 0 6 (none) h0) (k128 : ∀ (h : aH) (a0 : Option Nat) (a1 : Int32) (a3 : Int32) (g : aH), K128 h a0 a1 a3 = some g → V p l e R s m args below meth c D n0 s0 (aEnd D below args s h0 (.inr none, g)) h 128 [(0, false, va_rf a0), (1, false, .int a1), (3, false, .int a3)] []) (k136 : ∀ (h : aH) (a0 : Option Nat) (a1 : Int32) (a3 : Int32) (a4 : Int32) (g : aH), K136 h a0 a1 a3 a4 = some g → V p l e R s m args below meth c D n0 s0 (aEnd D below args s h0 (.inr none, g)) h 136 [(0, false, va_rf a0), (1, false, .int a1), (3, false, .int a3), (4, false, .int a4)] []) : ∀ (n : Nat) (h : aH) (a0 : Option Nat) (a1 : Int32) (a3 : Int32) (a4 : Int32) (a5 : Int32) (g : aH), fX10_climb_p145 D K128 K136 n h a0 a1 a3 a4 a5 = some g → V p l e R s m args below meth c D n0 s0 (aEnd D below args s h0 (.inr none, g)) h 145 [(0, false, va_rf a0), (1, false, .int a1), (3, false, .int a3), (4, false, .int a4), (5, false, .int a5)] [] := by
  have C := X.1
  intro n
  induction n with
  | zero =>
    intro _ _ _ _ _ _ _ hf
    rw [fX10_climb_p145] at hf
    cases hf
  | succ n ih =>
    intro h a0 a1 a3 a4 a5 g hf
    rw [fX10_climb_p145] at hf
    refine v_iload (pc := 145) (j := 4) C dX10_climb_145 rfl ?_
    refine v_iload_n (pc := 147) (j := 1) C dX10_climb_147 rfl rfl ?_
    refine v_icmp_ge (pc := 148) (tgt := 199) C dX10_climb_148 rfl (fun hc => ?_) (fun hc => ?_)
    · rw [if_pos hc] at hf
      exact V.sub [0, 1, 2, 3] rfl (vX10_climb_p199 X k128 k136 hf)
    · rw [if_neg hc] at hf
      refine v_aload_n (pc := 151) (j := 0) C dX10_climb_151 rfl rfl ?_
      obtain ⟨x1, ex1, hf⟩ := oB hf
      refine v_getF (pc := 152) C lk_X10_64 (gR_eq ex1) dX10_climb_152 ?_
      refine v_iload (pc := 155) (j := 3) C dX10_climb_155 rfl ?_
      obtain ⟨x2, ex2, hf⟩ := oB hf
      refine v_aaload (pc := 157) C ex2 dX10_climb_157 ?_
      refine v_iload (pc := 158) (j := 4) C dX10_climb_158 rfl ?_
      refine v_dup2_11 (pc := 160) C dX10_climb_160 rfl (va_rfc _) ?_
      obtain ⟨x3, ex3, hf⟩ := oB hf
      refine v_baload (pc := 161) C ex3 dX10_climb_161 ?_
      refine v_aload_n (pc := 162) (j := 0) C dX10_climb_162 rfl rfl ?_
      obtain ⟨x4, ex4, hf⟩ := oB hf
      refine v_getF (pc := 163) C lk_X10_64 (gR_eq ex4) dX10_climb_163 ?_
      refine v_iload (pc := 166) (j := 3) C dX10_climb_166 rfl ?_
      obtain ⟨x5, ex5, hf⟩ := oB hf
      refine v_aaload (pc := 168) C ex5 dX10_climb_168 ?_
      refine v_iload_n (pc := 169) (j := 2) C dX10_climb_169 rfl rfl ?_
      obtain ⟨x6, ex6, hf⟩ := oB hf
      refine v_baload (pc := 170) C ex6 dX10_climb_170 ?_
      refine v_if_eq (pc := 171) (tgt := 190) C dX10_climb_171 rfl (fun hc => ?_) (fun hc => ?_)
      · rw [if_pos hc] at hf
        refine v_iconst (pc := 190) (v := (0 : Int32)) C dX10_climb_190 rfl ?_
        exact V.sub [0, 1, 2, 3, 4] rfl (vX10_climb_p191 X k128 k136 ih hf)
      · rw [if_neg hc] at hf
        refine v_aload_n (pc := 174) (j := 0) C dX10_climb_174 rfl rfl ?_
        obtain ⟨x7, ex7, hf⟩ := oB hf
        refine v_getF (pc := 175) C lk_X10_64 (gR_eq ex7) dX10_climb_175 ?_
        refine v_iload_n (pc := 178) (j := 2) C dX10_climb_178 rfl rfl ?_
        obtain ⟨x8, ex8, hf⟩ := oB hf
        refine v_aaload (pc := 179) C ex8 dX10_climb_179 ?_
        refine v_iload (pc := 180) (j := 4) C dX10_climb_180 rfl ?_
        obtain ⟨x9, ex9, hf⟩ := oB hf
        refine v_baload (pc := 182) C ex9 dX10_climb_182 ?_
        refine v_if_eq (pc := 183) (tgt := 190) C dX10_climb_183 rfl (fun hc => ?_) (fun hc => ?_)
        · simp only [if_pos hc] at hf
          refine v_iconst (pc := 190) (v := (0 : Int32)) C dX10_climb_190 rfl ?_
          exact V.sub [0, 1, 2, 3, 4] rfl (vX10_climb_p191 X k128 k136 ih hf)
        · simp only [if_neg hc] at hf
          refine v_iconst (pc := 186) (v := (1 : Int32)) C dX10_climb_186 rfl ?_
          refine v_goto (pc := 187) (tgt := 191) C dX10_climb_187 rfl ?_
          exact V.sub [0, 1, 2, 3, 4] rfl (vX10_climb_p191 X k128 k136 ih hf)
def fX10_climb_p205 (D : aD) (K128 : aH → (Option Nat) → Int32 → Int32 → Option (aH)) (h : aH) (a0 : Option Nat) (a1 : Int32) (a3 : Int32) : Option (aH) :=
  K128 h a0 a1 (a3 + 1)
theorem vX10_climb_p205 {h : aH} {K128 : aH → (Option Nat) → Int32 → Int32 → Option (aH)} {a0 : Option Nat} {a1 : Int32} {a3 : Int32} {g : aH} (X : aX p l R s m meth c D n0 s0 yX10_climb cX10_climb 0 0 6 (none) h0) (k128 : ∀ (h : aH) (a0 : Option Nat) (a1 : Int32) (a3 : Int32) (g : aH), K128 h a0 a1 a3 = some g → V p l e R s m args below meth c D n0 s0 (aEnd D below args s h0 (.inr none, g)) h 128 [(0, false, va_rf a0), (1, false, .int a1), (3, false, .int a3)] []) (hf : fX10_climb_p205 D K128 h a0 a1 a3 = some g) : V p l e R s m args below meth c D n0 s0 (aEnd D below args s h0 (.inr none, g)) h 205 [(0, false, va_rf a0), (1, false, .int a1), (3, false, .int a3)] [] := by
  have C := X.1
  unfold fX10_climb_p205 at hf
  refine v_iinc (pc := 205) (j := 2) (v := (a3 + 1)) (lv' := [(3, false, .int (a3 + 1)), (0, false, va_rf a0), (1, false, .int a1)]) C dX10_climb_205 rfl rfl (by decide) rfl ?_
  refine v_goto (pc := 208) (tgt := 128) C dX10_climb_208 rfl ?_
  exact V.sub [1, 2, 0] rfl (k128 _ _ _ _ _ hf)
def fX10_climb_p136 (D : aD) (K128 : aH → (Option Nat) → Int32 → Int32 → Option (aH)) : Nat → aH → (Option Nat) → Int32 → Int32 → Int32 → Option (aH)
  | 0, _, _, _, _, _ => none
  | n + 1, h, a0, a1, a3, a4 =>
  if a1 ≤ a4 then
  (fX10_climb_p205 D K128 h a0 a1 a3)
  else
  (fX10_climb_p145 D K128 (fX10_climb_p136 D K128 n) FU h a0 a1 a3 a4 (0 : Int32))
theorem vX10_climb_p136 {K128 : aH → (Option Nat) → Int32 → Int32 → Option (aH)} (X : aX p l R s m meth c D n0 s0 yX10_climb cX10_climb 0 0 6 (none) h0) (k128 : ∀ (h : aH) (a0 : Option Nat) (a1 : Int32) (a3 : Int32) (g : aH), K128 h a0 a1 a3 = some g → V p l e R s m args below meth c D n0 s0 (aEnd D below args s h0 (.inr none, g)) h 128 [(0, false, va_rf a0), (1, false, .int a1), (3, false, .int a3)] []) : ∀ (n : Nat) (h : aH) (a0 : Option Nat) (a1 : Int32) (a3 : Int32) (a4 : Int32) (g : aH), fX10_climb_p136 D K128 n h a0 a1 a3 a4 = some g → V p l e R s m args below meth c D n0 s0 (aEnd D below args s h0 (.inr none, g)) h 136 [(0, false, va_rf a0), (1, false, .int a1), (3, false, .int a3), (4, false, .int a4)] [] := by
  have C := X.1
  intro n
  induction n with
  | zero =>
    intro _ _ _ _ _ _ hf
    rw [fX10_climb_p136] at hf
    cases hf
  | succ n ih =>
    intro h a0 a1 a3 a4 g hf
    rw [fX10_climb_p136] at hf
    refine v_iload (pc := 136) (j := 3) C dX10_climb_136 rfl ?_
    refine v_iload_n (pc := 138) (j := 1) C dX10_climb_138 rfl rfl ?_
    refine v_icmp_ge (pc := 139) (tgt := 205) C dX10_climb_139 rfl (fun hc => ?_) (fun hc => ?_)
    · rw [if_pos hc] at hf
      exact V.sub [0, 1, 2] rfl (vX10_climb_p205 X k128 hf)
    · rw [if_neg hc] at hf
      refine v_iconst (pc := 142) (v := (0 : Int32)) C dX10_climb_142 rfl ?_
      refine v_istore (pc := 143) (lv' := [(5, false, .int (0 : Int32)), (0, false, va_rf a0), (1, false, .int a1), (3, false, .int a3), (4, false, .int a4)]) C dX10_climb_143 (by decide) rfl ?_
      exact V.sub [1, 2, 3, 4, 0] rfl (vX10_climb_p145 X k128 ih _ _ _ _ _ _ _ _ hf)
def fX10_climb_p128 (D : aD) : Nat → aH → (Option Nat) → Int32 → Int32 → Option (aH)
  | 0, _, _, _, _ => none
  | n + 1, h, a0, a1, a3 =>
  if a1 ≤ a3 then
  (some h)
  else
  (fX10_climb_p136 D (fX10_climb_p128 D n) FU h a0 a1 a3 (0 : Int32))
theorem vX10_climb_p128 (X : aX p l R s m meth c D n0 s0 yX10_climb cX10_climb 0 0 6 (none) h0) : ∀ (n : Nat) (h : aH) (a0 : Option Nat) (a1 : Int32) (a3 : Int32) (g : aH), fX10_climb_p128 D n h a0 a1 a3 = some g → V p l e R s m args below meth c D n0 s0 (aEnd D below args s h0 (.inr none, g)) h 128 [(0, false, va_rf a0), (1, false, .int a1), (3, false, .int a3)] [] := by
  have C := X.1
  intro n
  induction n with
  | zero =>
    intro _ _ _ _ _ hf
    rw [fX10_climb_p128] at hf
    cases hf
  | succ n ih =>
    intro h a0 a1 a3 g hf
    rw [fX10_climb_p128] at hf
    refine v_iload_n (pc := 128) (j := 2) C dX10_climb_128 rfl rfl ?_
    refine v_iload_n (pc := 129) (j := 1) C dX10_climb_129 rfl rfl ?_
    refine v_icmp_ge (pc := 130) (tgt := 211) C dX10_climb_130 rfl (fun hc => ?_) (fun hc => ?_)
    · rw [if_pos hc] at hf
      cases hf
      exact v_return (pc := 211) C X.2.1 X.2.2.1 X.2.2.2.1 rfl dX10_climb_211
    · rw [if_neg hc] at hf
      refine v_iconst (pc := 133) (v := (0 : Int32)) C dX10_climb_133 rfl ?_
      refine v_istore (pc := 134) (lv' := [(4, false, .int (0 : Int32)), (0, false, va_rf a0), (1, false, .int a1), (3, false, .int a3)]) C dX10_climb_134 (by decide) rfl ?_
      exact V.sub [1, 2, 3, 0] rfl (vX10_climb_p136 X ih _ _ _ _ _ _ _ hf)
def fX10_climb_p126 (D : aD) (h : aH) (a0 : Option Nat) (a1 : Int32) : Option (aH) :=
  fX10_climb_p128 D FU h a0 a1 (0 : Int32)
theorem vX10_climb_p126 {h : aH} {a0 : Option Nat} {a1 : Int32} {g : aH} (X : aX p l R s m meth c D n0 s0 yX10_climb cX10_climb 0 0 6 (none) h0) (hf : fX10_climb_p126 D h a0 a1 = some g) : V p l e R s m args below meth c D n0 s0 (aEnd D below args s h0 (.inr none, g)) h 126 [(0, false, va_rf a0), (1, false, .int a1)] [] := by
  have C := X.1
  unfold fX10_climb_p126 at hf
  refine v_iconst (pc := 126) (v := (0 : Int32)) C dX10_climb_126 rfl ?_
  refine v_istore_n (pc := 127) (lv' := [(3, false, .int (0 : Int32)), (0, false, va_rf a0), (1, false, .int a1)]) C dX10_climb_127 rfl (by decide) rfl ?_
  exact V.sub [1, 2, 0] rfl (vX10_climb_p128 X _ _ _ _ _ _ hf)
def fX10_climb_p34 (D : aD) : Nat → aH → (Option Nat) → Int32 → (Option Nat) → Int32 → Option (aH)
  | 0, _, _, _, _, _ => none
  | n + 1, h, a0, a1, a2, a3 =>
  (gI h 9 3 a0).bind fun x1 =>
  if x1 ≤ a3 then
  (fX10_climb_p126 D h a0 a1)
  else
  ((gR h 9 2 a0).bind fun x2 =>
  (eR h x2 a3).bind fun x3 =>
  (eI h x3 (1 : Int32)).bind fun x4 =>
  (gR h 9 2 a0).bind fun x5 =>
  (eR h x5 a3).bind fun x6 =>
  (eI h x6 (2 : Int32)).bind fun x7 =>
  (gR h 9 5 a0).bind fun x8 =>
  (gR h 9 2 a0).bind fun x9 =>
  (eR h x9 a3).bind fun x10 =>
  (eI h x10 (0 : Int32)).bind fun x11 =>
  (eI h a2 x4).bind fun x12 =>
  (eI h a2 x7).bind fun x13 =>
  fX10_climb_p90 D (fX10_climb_p34 D n) h a0 a1 a2 a3 x4 x7 x8 x11 (if x13 ≤ x12 then (0 : Int32) else (1 : Int32)))
theorem vX10_climb_p34 (X : aX p l R s m meth c D n0 s0 yX10_climb cX10_climb 0 0 6 (none) h0) : ∀ (n : Nat) (h : aH) (a0 : Option Nat) (a1 : Int32) (a2 : Option Nat) (a3 : Int32) (g : aH), fX10_climb_p34 D n h a0 a1 a2 a3 = some g → V p l e R s m args below meth c D n0 s0 (aEnd D below args s h0 (.inr none, g)) h 34 [(0, false, va_rf a0), (1, false, .int a1), (2, false, va_rf a2), (3, false, .int a3)] [] := by
  have C := X.1
  intro n
  induction n with
  | zero =>
    intro _ _ _ _ _ _ hf
    rw [fX10_climb_p34] at hf
    cases hf
  | succ n ih =>
    intro h a0 a1 a2 a3 g hf
    rw [fX10_climb_p34] at hf
    refine v_iload_n (pc := 34) (j := 3) C dX10_climb_34 rfl rfl ?_
    refine v_aload_n (pc := 35) (j := 0) C dX10_climb_35 rfl rfl ?_
    obtain ⟨x1, ex1, hf⟩ := oB hf
    refine v_getF (pc := 36) C lk_X10_58 (gI_eq ex1) dX10_climb_36 ?_
    refine v_icmp_ge (pc := 39) (tgt := 126) C dX10_climb_39 rfl (fun hc => ?_) (fun hc => ?_)
    · rw [if_pos hc] at hf
      exact V.sub [0, 1] rfl (vX10_climb_p126 X hf)
    · rw [if_neg hc] at hf
      refine v_aload_n (pc := 42) (j := 0) C dX10_climb_42 rfl rfl ?_
      obtain ⟨x2, ex2, hf⟩ := oB hf
      refine v_getF (pc := 43) C lk_X10_17 (gR_eq ex2) dX10_climb_43 ?_
      refine v_iload_n (pc := 46) (j := 3) C dX10_climb_46 rfl rfl ?_
      obtain ⟨x3, ex3, hf⟩ := oB hf
      refine v_aaload (pc := 47) C ex3 dX10_climb_47 ?_
      refine v_iconst (pc := 48) (v := (1 : Int32)) C dX10_climb_48 rfl ?_
      obtain ⟨x4, ex4, hf⟩ := oB hf
      refine v_iaload (pc := 49) C ex4 dX10_climb_49 ?_
      refine v_istore (pc := 50) (lv' := [(4, false, .int x4), (0, false, va_rf a0), (1, false, .int a1), (2, false, va_rf a2), (3, false, .int a3)]) C dX10_climb_50 (by decide) rfl ?_
      refine v_aload_n (pc := 52) (j := 1) C dX10_climb_52 rfl rfl ?_
      obtain ⟨x5, ex5, hf⟩ := oB hf
      refine v_getF (pc := 53) C lk_X10_17 (gR_eq ex5) dX10_climb_53 ?_
      refine v_iload_n (pc := 56) (j := 4) C dX10_climb_56 rfl rfl ?_
      obtain ⟨x6, ex6, hf⟩ := oB hf
      refine v_aaload (pc := 57) C ex6 dX10_climb_57 ?_
      refine v_iconst (pc := 58) (v := (2 : Int32)) C dX10_climb_58 rfl ?_
      obtain ⟨x7, ex7, hf⟩ := oB hf
      refine v_iaload (pc := 59) C ex7 dX10_climb_59 ?_
      refine v_istore (pc := 60) (lv' := [(5, false, .int x7), (4, false, .int x4), (0, false, va_rf a0), (1, false, .int a1), (2, false, va_rf a2), (3, false, .int a3)]) C dX10_climb_60 (by decide) rfl ?_
      refine v_aload_n (pc := 62) (j := 2) C dX10_climb_62 rfl rfl ?_
      obtain ⟨x8, ex8, hf⟩ := oB hf
      refine v_getF (pc := 63) C lk_X10_35 (gR_eq ex8) dX10_climb_63 ?_
      refine v_aload_n (pc := 66) (j := 2) C dX10_climb_66 rfl rfl ?_
      obtain ⟨x9, ex9, hf⟩ := oB hf
      refine v_getF (pc := 67) C lk_X10_17 (gR_eq ex9) dX10_climb_67 ?_
      refine v_iload_n (pc := 70) (j := 5) C dX10_climb_70 rfl rfl ?_
      obtain ⟨x10, ex10, hf⟩ := oB hf
      refine v_aaload (pc := 71) C ex10 dX10_climb_71 ?_
      refine v_iconst (pc := 72) (v := (0 : Int32)) C dX10_climb_72 rfl ?_
      obtain ⟨x11, ex11, hf⟩ := oB hf
      refine v_iaload (pc := 73) C ex11 dX10_climb_73 ?_
      refine v_aload_n (pc := 74) (j := 4) C dX10_climb_74 rfl rfl ?_
      refine v_iload (pc := 75) (j := 1) C dX10_climb_75 rfl ?_
      obtain ⟨x12, ex12, hf⟩ := oB hf
      refine v_iaload (pc := 77) C ex12 dX10_climb_77 ?_
      refine v_aload_n (pc := 78) (j := 4) C dX10_climb_78 rfl rfl ?_
      refine v_iload (pc := 79) (j := 0) C dX10_climb_79 rfl ?_
      obtain ⟨x13, ex13, hf⟩ := oB hf
      refine v_iaload (pc := 81) C ex13 dX10_climb_81 ?_
      refine v_icmp_ge (pc := 82) (tgt := 89) C dX10_climb_82 rfl (fun hc => ?_) (fun hc => ?_)
      · simp only [if_pos hc] at hf
        refine v_iconst (pc := 89) (v := (0 : Int32)) C dX10_climb_89 rfl ?_
        exact V.sub [2, 3, 4, 5, 1, 0] rfl (vX10_climb_p90 X ih hf)
      · simp only [if_neg hc] at hf
        refine v_iconst (pc := 85) (v := (1 : Int32)) C dX10_climb_85 rfl ?_
        refine v_goto (pc := 86) (tgt := 90) C dX10_climb_86 rfl ?_
        exact V.sub [2, 3, 4, 5, 1, 0] rfl (vX10_climb_p90 X ih hf)
def fX10_climb_p32 (D : aD) (h : aH) (a0 : Option Nat) (a1 : Int32) (a2 : Option Nat) : Option (aH) :=
  fX10_climb_p34 D FU h a0 a1 a2 (0 : Int32)
theorem vX10_climb_p32 {h : aH} {a0 : Option Nat} {a1 : Int32} {a2 : Option Nat} {g : aH} (X : aX p l R s m meth c D n0 s0 yX10_climb cX10_climb 0 0 6 (none) h0) (hf : fX10_climb_p32 D h a0 a1 a2 = some g) : V p l e R s m args below meth c D n0 s0 (aEnd D below args s h0 (.inr none, g)) h 32 [(0, false, va_rf a0), (1, false, .int a1), (2, false, va_rf a2)] [] := by
  have C := X.1
  unfold fX10_climb_p32 at hf
  refine v_iconst (pc := 32) (v := (0 : Int32)) C dX10_climb_32 rfl ?_
  refine v_istore_n (pc := 33) (lv' := [(3, false, .int (0 : Int32)), (0, false, va_rf a0), (1, false, .int a1), (2, false, va_rf a2)]) C dX10_climb_33 rfl (by decide) rfl ?_
  exact V.sub [1, 2, 3, 0] rfl (vX10_climb_p34 X _ _ _ _ _ _ _ hf)
def fX10_climb_p12 (D : aD) : Nat → aH → (Option Nat) → Int32 → (Option Nat) → Int32 → Option (aH)
  | 0, _, _, _, _, _ => none
  | n + 1, h, a0, a1, a2, a3 =>
  if a1 ≤ a3 then
  (fX10_climb_p32 D h a0 a1 a2)
  else
  ((gR h 9 1 a0).bind fun x1 =>
  (eI h x1 a3).bind fun x2 =>
  (sF D h 100 a2 x2 (.int a3)).bind fun h3 =>
  fX10_climb_p12 D n h3 a0 a1 a2 (a3 + 1))
theorem vX10_climb_p12 (X : aX p l R s m meth c D n0 s0 yX10_climb cX10_climb 0 0 6 (none) h0) : ∀ (n : Nat) (h : aH) (a0 : Option Nat) (a1 : Int32) (a2 : Option Nat) (a3 : Int32) (g : aH), fX10_climb_p12 D n h a0 a1 a2 a3 = some g → V p l e R s m args below meth c D n0 s0 (aEnd D below args s h0 (.inr none, g)) h 12 [(0, false, va_rf a0), (1, false, .int a1), (2, false, va_rf a2), (3, false, .int a3)] [] := by
  have C := X.1
  intro n
  induction n with
  | zero =>
    intro _ _ _ _ _ _ hf
    rw [fX10_climb_p12] at hf
    cases hf
  | succ n ih =>
    intro h a0 a1 a2 a3 g hf
    rw [fX10_climb_p12] at hf
    refine v_iload_n (pc := 12) (j := 3) C dX10_climb_12 rfl rfl ?_
    refine v_iload_n (pc := 13) (j := 1) C dX10_climb_13 rfl rfl ?_
    refine v_icmp_ge (pc := 14) (tgt := 32) C dX10_climb_14 rfl (fun hc => ?_) (fun hc => ?_)
    · rw [if_pos hc] at hf
      exact V.sub [0, 1, 2] rfl (vX10_climb_p32 X hf)
    · rw [if_neg hc] at hf
      refine v_aload_n (pc := 17) (j := 2) C dX10_climb_17 rfl rfl ?_
      refine v_aload_n (pc := 18) (j := 0) C dX10_climb_18 rfl rfl ?_
      obtain ⟨x1, ex1, hf⟩ := oB hf
      refine v_getF (pc := 19) C lk_X10_88 (gR_eq ex1) dX10_climb_19 ?_
      refine v_iload_n (pc := 22) (j := 3) C dX10_climb_22 rfl rfl ?_
      obtain ⟨x2, ex2, hf⟩ := oB hf
      refine v_iaload (pc := 23) C ex2 dX10_climb_23 ?_
      refine v_iload_n (pc := 24) (j := 3) C dX10_climb_24 rfl rfl ?_
      obtain ⟨h3, eh3, hf⟩ := oB hf
      refine v_iastore (pc := 25) C eh3 dX10_climb_25 ?_
      refine v_iinc (pc := 26) (j := 3) (v := (a3 + 1)) (lv' := [(3, false, .int (a3 + 1)), (0, false, va_rf a0), (1, false, .int a1), (2, false, va_rf a2)]) C dX10_climb_26 rfl rfl (by decide) rfl ?_
      refine v_goto (pc := 29) (tgt := 12) C dX10_climb_29 rfl ?_
      exact V.sub [1, 2, 3, 0] rfl (ih _ _ _ _ _ _ hf)
def fX10_climb (D : aD) (h : aH) (a0 : Option Nat) : Option (aH) :=
  (gR h 9 0 a0).bind fun x1 =>
  (eN h x1).bind fun x2 =>
  (aMkA D h 100 x2 (.int 0)).bind fun h3 =>
  fX10_climb_p12 D FU h3 a0 x2 (some h.1) (0 : Int32)
theorem vX10_climb {h : aH} {a0 : Option Nat} {g : aH} (X : aX p l R s m meth c D n0 s0 yX10_climb cX10_climb 0 0 6 (none) h0) (hf : fX10_climb D h a0 = some g) : V p l e R s m args below meth c D n0 s0 (aEnd D below args s h0 (.inr none, g)) h 0 [(0, false, va_rf a0)] [] := by
  have C := X.1
  unfold fX10_climb at hf
  refine v_aload_n (pc := 0) (j := 0) C dX10_climb_0 rfl rfl ?_
  obtain ⟨x1, ex1, hf⟩ := oB hf
  refine v_getF (pc := 1) C lk_X10_48 (gR_eq ex1) dX10_climb_1 ?_
  obtain ⟨x2, ex2, hf⟩ := oB hf
  refine v_alen (pc := 4) C ex2 dX10_climb_4 ?_
  refine v_istore_n (pc := 5) (lv' := [(1, false, .int x2), (0, false, va_rf a0)]) C dX10_climb_5 rfl (by decide) rfl ?_
  refine v_iload_n (pc := 6) (j := 0) C dX10_climb_6 rfl rfl ?_
  obtain ⟨h3, eh3, hf⟩ := oB hf
  refine v_newarray (pc := 7) (t := 100) (v := .int 0) C q169 rfl rfl (by decide) (by decide) rfl eh3 dX10_climb_7 ?_
  refine v_astore_n (pc := 9) (lv' := [(2, false, va_rf (some h.1)), (1, false, .int x2), (0, false, va_rf a0)]) C dX10_climb_9 rfl (by decide) rfl ?_
  refine v_iconst (pc := 10) (v := (0 : Int32)) C dX10_climb_10 rfl ?_
  refine v_istore_n (pc := 11) (lv' := [(3, false, .int (0 : Int32)), (2, false, va_rf (some h.1)), (1, false, .int x2), (0, false, va_rf a0)]) C dX10_climb_11 rfl (by decide) rfl ?_
  exact V.sub [3, 2, 1, 0] rfl (vX10_climb_p12 X _ _ _ _ _ _ _ hf)
theorem mX10_climb {l : Launch} {D : aD} {h : aH} {a0 : Option Nat} {g : aH} (hst : l.stackTraces = false) (hf : fX10_climb D h a0 = some g) : aM l D yX10_climb cX10_climb 6 (none) 0 0 [va_rf a0] h (.inr none, g) :=
  aM.ofX [(false, va_rf a0)] rfl (ap_r ap_0) (by decide +kernel) hst (al_of (aw_r aw_0) (by decide)) fun p e s m args below meth c X => V.sub (lv' := [(0, false, va_rf a0)]) [0] rfl (vX10_climb X hf)
def fX10_bound_p86 (D : aD) (h : aH) (t0 : Int32) (t1 : Int32) : Option (Int32) :=
  some (t0 - t1)
theorem vX10_bound_p86 {h : aH} {t0 : Int32} {t1 : Int32} {q : Int32} (X : aX p l R s m meth c D n0 s0 yX10_bound cX10_bound 3 64 3 (some .int) h0) (hf : fX10_bound_p86 D h t0 t1 = some q) : V p l e R s m args below meth c D n0 s0 (aEnd D below args s h0 (.inr (some (.int q)), h)) h 86 [] [.int t1, .int t0] := by
  have C := X.1
  unfold fX10_bound_p86 at hf
  refine v_isub (pc := 86) C dX10_bound_86 ?_
  cases hf
  exact v_ireturn (pc := 87) C X.2.1 X.2.2.1 X.2.2.2.1 rfl dX10_bound_87
def fX10_bound (D : aD) (h : aH) (a0 : Option Nat) (a1 : Int32) : Option (Int32) :=
  (gR h 9 7 a0).bind fun x1 =>
  (gR h 1 13 x1).bind fun x2 =>
  (aIs h 15 x2).bind fun _ =>
  (fJ2_get D h x2 a1).bind fun x4 =>
  (aCast h [100] x4).bind fun _ =>
  (eI h x4 (0 : Int32)).bind fun x7 =>
  if x7 = (1 : Int32) then
  ((gR h 9 7 a0).bind fun x16 =>
  (gR h 1 14 x16).bind fun x17 =>
  (eI h x4 (2 : Int32)).bind fun x18 =>
  (eI h x17 x18).bind fun x19 =>
  some x19)
  else
  ((eI h x4 (0 : Int32)).bind fun x8 =>
  if x8 = (2 : Int32) then
  ((gR h 9 7 a0).bind fun x12 =>
  (gR h 1 15 x12).bind fun x13 =>
  (eI h x4 (2 : Int32)).bind fun x14 =>
  (eI h x13 x14).bind fun x15 =>
  some x15)
  else
  ((eI h x4 (2 : Int32)).bind fun x9 =>
  if (20 : Int32) < x9 then
  ((eI h x4 (2 : Int32)).bind fun x10 =>
  fX10_bound_p86 D h (30000 : Int32) ((200 : Int32) + ((25 : Int32) * (x10 - (20 : Int32)))))
  else
  ((eI h x4 (2 : Int32)).bind fun x11 =>
  fX10_bound_p86 D h (30000 : Int32) ((10 : Int32) * x11))))
theorem vX10_bound {h : aH} {a0 : Option Nat} {a1 : Int32} {q : Int32} (X : aX p l R s m meth c D n0 s0 yX10_bound cX10_bound 3 64 3 (some .int) h0) (hf : fX10_bound D h a0 a1 = some q) : V p l e R s m args below meth c D n0 s0 (aEnd D below args s h0 (.inr (some (.int q)), h)) h 0 [(0, false, va_rf a0), (1, false, .int a1)] [] := by
  have C := X.1
  unfold fX10_bound at hf
  refine v_aload_n (pc := 0) (j := 0) C dX10_bound_0 rfl rfl ?_
  obtain ⟨x1, ex1, hf⟩ := oB hf
  refine v_getF (pc := 1) C lk_X10_3 (gR_eq ex1) dX10_bound_1 ?_
  obtain ⟨x2, ex2, hf⟩ := oB hf
  refine v_getF (pc := 4) C lk_X10_21 (gR_eq ex2) dX10_bound_4 ?_
  refine v_iload_n (pc := 7) (j := 1) C dX10_bound_7 rfl rfl ?_
  obtain ⟨b3, eb3, hf⟩ := oB hf
  obtain ⟨rb3, _, kb3⟩ := aIs_eq eb3
  obtain ⟨x4, ex4, hf⟩ := oB hf
  refine v_call (pc := 8) (d_V (pc := 8) C (As := [.int a1]) (rest := []) rb3 kb3 nt_15 q2692 yi_J2_get_java_util_ArrayList yk_J2_get rfl (by decide) (by decide) (Nat.le_trans aw_0 (by decide)) rfl (mJ2_get C.st ex4) dX10_bound_8) ?_
  obtain ⟨_, e6, hf⟩ := oB hf
  refine v_cast (pc := 11) C q2688 ct__I e6 dX10_bound_11 ?_
  refine v_astore_n (pc := 14) (lv' := [(2, false, va_rf x4), (0, false, va_rf a0), (1, false, .int a1)]) C dX10_bound_14 rfl (by decide) rfl ?_
  refine v_aload_n (pc := 15) (j := 0) C dX10_bound_15 rfl rfl ?_
  refine v_iconst (pc := 16) (v := (0 : Int32)) C dX10_bound_16 rfl ?_
  obtain ⟨x7, ex7, hf⟩ := oB hf
  refine v_iaload (pc := 17) C ex7 dX10_bound_17 ?_
  refine v_iconst (pc := 18) (v := (1 : Int32)) C dX10_bound_18 rfl ?_
  refine v_icmp_ne (pc := 19) (tgt := 34) C dX10_bound_19 rfl (fun hc => ?_) (fun hc => ?_)
  · rw [if_neg hc] at hf
    refine v_aload_n (pc := 34) (j := 0) C dX10_bound_34 rfl rfl ?_
    refine v_iconst (pc := 35) (v := (0 : Int32)) C dX10_bound_35 rfl ?_
    obtain ⟨x8, ex8, hf⟩ := oB hf
    refine v_iaload (pc := 36) C ex8 dX10_bound_36 ?_
    refine v_iconst (pc := 37) (v := (2 : Int32)) C dX10_bound_37 rfl ?_
    refine v_icmp_ne (pc := 38) (tgt := 53) C dX10_bound_38 rfl (fun hc => ?_) (fun hc => ?_)
    · rw [if_neg hc] at hf
      refine v_sipush (pc := 53) (v := (30000 : Int32)) C dX10_bound_53 rfl ?_
      refine v_aload_n (pc := 56) (j := 0) C dX10_bound_56 rfl rfl ?_
      refine v_iconst (pc := 57) (v := (2 : Int32)) C dX10_bound_57 rfl ?_
      obtain ⟨x9, ex9, hf⟩ := oB hf
      refine v_iaload (pc := 58) C ex9 dX10_bound_58 ?_
      refine v_bipush (pc := 59) (v := (20 : Int32)) C dX10_bound_59 rfl ?_
      refine v_icmp_gt (pc := 61) (tgt := 73) C dX10_bound_61 rfl (fun hc => ?_) (fun hc => ?_)
      · rw [if_pos hc] at hf
        refine v_sipush (pc := 73) (v := (200 : Int32)) C dX10_bound_73 rfl ?_
        refine v_bipush (pc := 76) (v := (25 : Int32)) C dX10_bound_76 rfl ?_
        refine v_aload_n (pc := 78) (j := 0) C dX10_bound_78 rfl rfl ?_
        refine v_iconst (pc := 79) (v := (2 : Int32)) C dX10_bound_79 rfl ?_
        obtain ⟨x10, ex10, hf⟩ := oB hf
        refine v_iaload (pc := 80) C ex10 dX10_bound_80 ?_
        refine v_bipush (pc := 81) (v := (20 : Int32)) C dX10_bound_81 rfl ?_
        refine v_isub (pc := 83) C dX10_bound_83 ?_
        refine v_imul (pc := 84) C dX10_bound_84 ?_
        refine v_iadd (pc := 85) C dX10_bound_85 ?_
        exact V.sub [] rfl (vX10_bound_p86 X hf)
      · rw [if_neg hc] at hf
        refine v_bipush (pc := 64) (v := (10 : Int32)) C dX10_bound_64 rfl ?_
        refine v_aload_n (pc := 66) (j := 0) C dX10_bound_66 rfl rfl ?_
        refine v_iconst (pc := 67) (v := (2 : Int32)) C dX10_bound_67 rfl ?_
        obtain ⟨x11, ex11, hf⟩ := oB hf
        refine v_iaload (pc := 68) C ex11 dX10_bound_68 ?_
        refine v_imul (pc := 69) C dX10_bound_69 ?_
        refine v_goto (pc := 70) (tgt := 86) C dX10_bound_70 rfl ?_
        exact V.sub [] rfl (vX10_bound_p86 X hf)
    · rw [if_pos (Decidable.of_not_not hc)] at hf
      refine v_aload_n (pc := 41) (j := 1) C dX10_bound_41 rfl rfl ?_
      obtain ⟨x12, ex12, hf⟩ := oB hf
      refine v_getF (pc := 42) C lk_X10_3 (gR_eq ex12) dX10_bound_42 ?_
      obtain ⟨x13, ex13, hf⟩ := oB hf
      refine v_getF (pc := 45) C lk_X10_94 (gR_eq ex13) dX10_bound_45 ?_
      refine v_aload_n (pc := 48) (j := 0) C dX10_bound_48 rfl rfl ?_
      refine v_iconst (pc := 49) (v := (2 : Int32)) C dX10_bound_49 rfl ?_
      obtain ⟨x14, ex14, hf⟩ := oB hf
      refine v_iaload (pc := 50) C ex14 dX10_bound_50 ?_
      obtain ⟨x15, ex15, hf⟩ := oB hf
      refine v_iaload (pc := 51) C ex15 dX10_bound_51 ?_
      cases hf
      exact v_ireturn (pc := 52) C X.2.1 X.2.2.1 X.2.2.2.1 rfl dX10_bound_52
  · rw [if_pos (Decidable.of_not_not hc)] at hf
    refine v_aload_n (pc := 22) (j := 1) C dX10_bound_22 rfl rfl ?_
    obtain ⟨x16, ex16, hf⟩ := oB hf
    refine v_getF (pc := 23) C lk_X10_3 (gR_eq ex16) dX10_bound_23 ?_
    obtain ⟨x17, ex17, hf⟩ := oB hf
    refine v_getF (pc := 26) C lk_X10_91 (gR_eq ex17) dX10_bound_26 ?_
    refine v_aload_n (pc := 29) (j := 0) C dX10_bound_29 rfl rfl ?_
    refine v_iconst (pc := 30) (v := (2 : Int32)) C dX10_bound_30 rfl ?_
    obtain ⟨x18, ex18, hf⟩ := oB hf
    refine v_iaload (pc := 31) C ex18 dX10_bound_31 ?_
    obtain ⟨x19, ex19, hf⟩ := oB hf
    refine v_iaload (pc := 32) C ex19 dX10_bound_32 ?_
    cases hf
    exact v_ireturn (pc := 33) C X.2.1 X.2.2.1 X.2.2.2.1 rfl dX10_bound_33
theorem mX10_bound {l : Launch} {D : aD} {h : aH} {a0 : Option Nat} {a1 : Int32} {q : Int32} (hst : l.stackTraces = false) (hf : fX10_bound D h a0 a1 = some q) : aM l D yX10_bound cX10_bound 3 (some .int) 3 64 [va_rf a0, .int a1] h (.inr (some (.int q)), h) :=
  aM.ofX [(false, va_rf a0), (false, .int a1)] rfl (ap_r (ap_c rfl ap_0)) (by decide +kernel) hst (al_of (aw_r (aw_i aw_0)) (by decide)) fun p e s m args below meth c X => V.sub (lv' := [(0, false, va_rf a0), (1, false, .int a1)]) [0, 1] rfl (vX10_bound X hf)
def fX10_clash (D : aD) (h : aH) (a0 : Option Nat) (a1 : Int32) (a2 : Int32) : Option (Int32) :=
  (gR h 9 7 a0).bind fun x1 =>
  (gR h 1 13 x1).bind fun x2 =>
  (aIs h 15 x2).bind fun _ =>
  (fJ2_get D h x2 a1).bind fun x4 =>
  (aCast h [100] x4).bind fun _ =>
  (eI h x4 (1 : Int32)).bind fun x7 =>
  (aIs h 9 a0).bind fun _ =>
  (fX10_place D h a0 x7).bind fun x9 =>
  (gR h 9 7 a0).bind fun x11 =>
  (gR h 1 13 x11).bind fun x12 =>
  (aIs h 15 x12).bind fun _ =>
  (fJ2_get D h x12 a2).bind fun x14 =>
  (aCast h [100] x14).bind fun _ =>
  (eI h x14 (1 : Int32)).bind fun x17 =>
  (aIs h 9 a0).bind fun _ =>
  (fX10_place D h a0 x17).bind fun x19 =>
  (gR h 9 7 a0).bind fun x21 =>
  (gR h 1 13 x21).bind fun x22 =>
  (aIs h 15 x22).bind fun _ =>
  (fJ2_get D h x22 a1).bind fun x24 =>
  (aCast h [100] x24).bind fun _ =>
  (eI h x24 (0 : Int32)).bind fun x27 =>
  if x27 = (1 : Int32) then
  ((gR h 9 7 a0).bind fun x28 =>
  (gR h 1 13 x28).bind fun x29 =>
  (aIs h 15 x29).bind fun _ =>
  (fJ2_get D h x29 a2).bind fun x31 =>
  (aCast h [100] x31).bind fun _ =>
  (eI h x31 (0 : Int32)).bind fun x34 =>
  if x34 ≤ (1 : Int32) then
  (some (0 : Int32))
  else
  ((aIs h 9 a0).bind fun _ =>
  (fX10_bound D h a0 a1).bind fun x36 =>
  (aIs h 9 a0).bind fun _ =>
  (fX10_bound D h a0 a2).bind fun x39 =>
  if x36 ≤ x39 then
  (some (0 : Int32))
  else
  (if x9 = x19 then
  (some (1 : Int32))
  else
  ((gR h 9 6 a0).bind fun x41 =>
  (eR h x41 x19).bind fun x42 =>
  (eZ h x42 x9).bind fun x43 =>
  if x43 = 0 then
  (some (0 : Int32))
  else
  (some (1 : Int32))))))
  else
  (some (0 : Int32))
theorem vX10_clash {h : aH} {a0 : Option Nat} {a1 : Int32} {a2 : Int32} {q : Int32} (X : aX p l R s m meth c D n0 s0 yX10_clash cX10_clash 4 86 5 (some .boolean) h0) (hf : fX10_clash D h a0 a1 a2 = some q) : V p l e R s m args below meth c D n0 s0 (aEnd D below args s h0 (.inr (some (.int q)), h)) h 0 [(0, false, va_rf a0), (1, false, .int a1), (2, false, .int a2)] [] := by
  have C := X.1
  unfold fX10_clash at hf
  refine v_aload_n (pc := 0) (j := 0) C dX10_clash_0 rfl rfl ?_
  refine v_aload_n (pc := 1) (j := 0) C dX10_clash_1 rfl rfl ?_
  obtain ⟨x1, ex1, hf⟩ := oB hf
  refine v_getF (pc := 2) C lk_X10_3 (gR_eq ex1) dX10_clash_2 ?_
  obtain ⟨x2, ex2, hf⟩ := oB hf
  refine v_getF (pc := 5) C lk_X10_21 (gR_eq ex2) dX10_clash_5 ?_
  refine v_iload_n (pc := 8) (j := 1) C dX10_clash_8 rfl rfl ?_
  obtain ⟨b3, eb3, hf⟩ := oB hf
  obtain ⟨rb3, _, kb3⟩ := aIs_eq eb3
  obtain ⟨x4, ex4, hf⟩ := oB hf
  refine v_call (pc := 9) (d_V (pc := 9) C (As := [.int a1]) (rest := [va_rf a0]) rb3 kb3 nt_15 q2692 yi_J2_get_java_util_ArrayList yk_J2_get rfl (by decide) (by decide) (Nat.le_trans (aw_r aw_0) (by decide)) rfl (mJ2_get C.st ex4) dX10_clash_9) ?_
  obtain ⟨_, e6, hf⟩ := oB hf
  refine v_cast (pc := 12) C q2688 ct__I e6 dX10_clash_12 ?_
  refine v_iconst (pc := 15) (v := (1 : Int32)) C dX10_clash_15 rfl ?_
  obtain ⟨x7, ex7, hf⟩ := oB hf
  refine v_iaload (pc := 16) C ex7 dX10_clash_16 ?_
  obtain ⟨b8, eb8, hf⟩ := oB hf
  obtain ⟨rb8, _, kb8⟩ := aIs_eq eb8
  obtain ⟨x9, ex9, hf⟩ := oB hf
  refine v_call (pc := 17) (d_V (pc := 17) C (As := [.int x7]) (rest := []) rb8 kb8 nt_9 q2693 yi_X10_place_FigureSurveyModel_Found yk_X10_place rfl (by decide) (by decide) (Nat.le_trans aw_0 (by decide)) rfl (mX10_place C.st ex9) dX10_clash_17) ?_
  refine v_istore_n (pc := 20) (lv' := [(3, false, .int x9), (0, false, va_rf a0), (1, false, .int a1), (2, false, .int a2)]) C dX10_clash_20 rfl (by decide) rfl ?_
  refine v_aload_n (pc := 21) (j := 1) C dX10_clash_21 rfl rfl ?_
  refine v_aload_n (pc := 22) (j := 1) C dX10_clash_22 rfl rfl ?_
  obtain ⟨x11, ex11, hf⟩ := oB hf
  refine v_getF (pc := 23) C lk_X10_3 (gR_eq ex11) dX10_clash_23 ?_
  obtain ⟨x12, ex12, hf⟩ := oB hf
  refine v_getF (pc := 26) C lk_X10_21 (gR_eq ex12) dX10_clash_26 ?_
  refine v_iload_n (pc := 29) (j := 3) C dX10_clash_29 rfl rfl ?_
  obtain ⟨b13, eb13, hf⟩ := oB hf
  obtain ⟨rb13, _, kb13⟩ := aIs_eq eb13
  obtain ⟨x14, ex14, hf⟩ := oB hf
  refine v_call (pc := 30) (d_V (pc := 30) C (As := [.int a2]) (rest := [va_rf a0]) rb13 kb13 nt_15 q2692 yi_J2_get_java_util_ArrayList yk_J2_get rfl (by decide) (by decide) (Nat.le_trans (aw_r aw_0) (by decide)) rfl (mJ2_get C.st ex14) dX10_clash_30) ?_
  obtain ⟨_, e16, hf⟩ := oB hf
  refine v_cast (pc := 33) C q2688 ct__I e16 dX10_clash_33 ?_
  refine v_iconst (pc := 36) (v := (1 : Int32)) C dX10_clash_36 rfl ?_
  obtain ⟨x17, ex17, hf⟩ := oB hf
  refine v_iaload (pc := 37) C ex17 dX10_clash_37 ?_
  obtain ⟨b18, eb18, hf⟩ := oB hf
  obtain ⟨rb18, _, kb18⟩ := aIs_eq eb18
  obtain ⟨x19, ex19, hf⟩ := oB hf
  refine v_call (pc := 38) (d_V (pc := 38) C (As := [.int x17]) (rest := []) rb18 kb18 nt_9 q2693 yi_X10_place_FigureSurveyModel_Found yk_X10_place rfl (by decide) (by decide) (Nat.le_trans aw_0 (by decide)) rfl (mX10_place C.st ex19) dX10_clash_38) ?_
  refine v_istore (pc := 41) (lv' := [(4, false, .int x19), (3, false, .int x9), (0, false, va_rf a0), (1, false, .int a1), (2, false, .int a2)]) C dX10_clash_41 (by decide) rfl ?_
  refine v_aload_n (pc := 43) (j := 2) C dX10_clash_43 rfl rfl ?_
  obtain ⟨x21, ex21, hf⟩ := oB hf
  refine v_getF (pc := 44) C lk_X10_3 (gR_eq ex21) dX10_clash_44 ?_
  obtain ⟨x22, ex22, hf⟩ := oB hf
  refine v_getF (pc := 47) C lk_X10_21 (gR_eq ex22) dX10_clash_47 ?_
  refine v_iload_n (pc := 50) (j := 3) C dX10_clash_50 rfl rfl ?_
  obtain ⟨b23, eb23, hf⟩ := oB hf
  obtain ⟨rb23, _, kb23⟩ := aIs_eq eb23
  obtain ⟨x24, ex24, hf⟩ := oB hf
  refine v_call (pc := 51) (d_V (pc := 51) C (As := [.int a1]) (rest := []) rb23 kb23 nt_15 q2692 yi_J2_get_java_util_ArrayList yk_J2_get rfl (by decide) (by decide) (Nat.le_trans aw_0 (by decide)) rfl (mJ2_get C.st ex24) dX10_clash_51) ?_
  obtain ⟨_, e26, hf⟩ := oB hf
  refine v_cast (pc := 54) C q2688 ct__I e26 dX10_clash_54 ?_
  refine v_iconst (pc := 57) (v := (0 : Int32)) C dX10_clash_57 rfl ?_
  obtain ⟨x27, ex27, hf⟩ := oB hf
  refine v_iaload (pc := 58) C ex27 dX10_clash_58 ?_
  refine v_iconst (pc := 59) (v := (1 : Int32)) C dX10_clash_59 rfl ?_
  refine v_icmp_ne (pc := 60) (tgt := 118) C dX10_clash_60 rfl (fun hc => ?_) (fun hc => ?_)
  · rw [if_neg hc] at hf
    refine v_iconst (pc := 118) (v := (0 : Int32)) C dX10_clash_118 rfl ?_
    cases hf
    exact v_zreturn (pc := 119) C X.2.1 X.2.2.1 X.2.2.2.1 (by decide) rfl dX10_clash_119
  · rw [if_pos (Decidable.of_not_not hc)] at hf
    refine v_aload_n (pc := 63) (j := 2) C dX10_clash_63 rfl rfl ?_
    obtain ⟨x28, ex28, hf⟩ := oB hf
    refine v_getF (pc := 64) C lk_X10_3 (gR_eq ex28) dX10_clash_64 ?_
    obtain ⟨x29, ex29, hf⟩ := oB hf
    refine v_getF (pc := 67) C lk_X10_21 (gR_eq ex29) dX10_clash_67 ?_
    refine v_iload_n (pc := 70) (j := 4) C dX10_clash_70 rfl rfl ?_
    obtain ⟨b30, eb30, hf⟩ := oB hf
    obtain ⟨rb30, _, kb30⟩ := aIs_eq eb30
    obtain ⟨x31, ex31, hf⟩ := oB hf
    refine v_call (pc := 71) (d_V (pc := 71) C (As := [.int a2]) (rest := []) rb30 kb30 nt_15 q2692 yi_J2_get_java_util_ArrayList yk_J2_get rfl (by decide) (by decide) (Nat.le_trans aw_0 (by decide)) rfl (mJ2_get C.st ex31) dX10_clash_71) ?_
    obtain ⟨_, e33, hf⟩ := oB hf
    refine v_cast (pc := 74) C q2688 ct__I e33 dX10_clash_74 ?_
    refine v_iconst (pc := 77) (v := (0 : Int32)) C dX10_clash_77 rfl ?_
    obtain ⟨x34, ex34, hf⟩ := oB hf
    refine v_iaload (pc := 78) C ex34 dX10_clash_78 ?_
    refine v_iconst (pc := 79) (v := (1 : Int32)) C dX10_clash_79 rfl ?_
    refine v_icmp_le (pc := 80) (tgt := 118) C dX10_clash_80 rfl (fun hc => ?_) (fun hc => ?_)
    · rw [if_pos hc] at hf
      refine v_iconst (pc := 118) (v := (0 : Int32)) C dX10_clash_118 rfl ?_
      cases hf
      exact v_zreturn (pc := 119) C X.2.1 X.2.2.1 X.2.2.2.1 (by decide) rfl dX10_clash_119
    · rw [if_neg hc] at hf
      refine v_aload_n (pc := 83) (j := 2) C dX10_clash_83 rfl rfl ?_
      refine v_iload_n (pc := 84) (j := 3) C dX10_clash_84 rfl rfl ?_
      obtain ⟨b35, eb35, hf⟩ := oB hf
      obtain ⟨rb35, _, kb35⟩ := aIs_eq eb35
      obtain ⟨x36, ex36, hf⟩ := oB hf
      refine v_call (pc := 85) (d_V (pc := 85) C (As := [.int a1]) (rest := []) rb35 kb35 nt_9 q2720 yi_X10_bound_FigureSurveyModel_Found yk_X10_bound rfl (by decide) (by decide) (Nat.le_trans aw_0 (by decide)) rfl (mX10_bound C.st ex36) dX10_clash_85) ?_
      refine v_aload_n (pc := 88) (j := 2) C dX10_clash_88 rfl rfl ?_
      refine v_iload_n (pc := 89) (j := 4) C dX10_clash_89 rfl rfl ?_
      obtain ⟨b38, eb38, hf⟩ := oB hf
      obtain ⟨rb38, _, kb38⟩ := aIs_eq eb38
      obtain ⟨x39, ex39, hf⟩ := oB hf
      refine v_call (pc := 90) (d_V (pc := 90) C (As := [.int a2]) (rest := [.int x36]) rb38 kb38 nt_9 q2720 yi_X10_bound_FigureSurveyModel_Found yk_X10_bound rfl (by decide) (by decide) (Nat.le_trans (aw_i aw_0) (by decide)) rfl (mX10_bound C.st ex39) dX10_clash_90) ?_
      refine v_icmp_le (pc := 93) (tgt := 118) C dX10_clash_93 rfl (fun hc => ?_) (fun hc => ?_)
      · rw [if_pos hc] at hf
        refine v_iconst (pc := 118) (v := (0 : Int32)) C dX10_clash_118 rfl ?_
        cases hf
        exact v_zreturn (pc := 119) C X.2.1 X.2.2.1 X.2.2.2.1 (by decide) rfl dX10_clash_119
      · rw [if_neg hc] at hf
        refine v_iload_n (pc := 96) (j := 1) C dX10_clash_96 rfl rfl ?_
        refine v_iload (pc := 97) (j := 0) C dX10_clash_97 rfl ?_
        refine v_icmp_eq (pc := 99) (tgt := 114) C dX10_clash_99 rfl (fun hc => ?_) (fun hc => ?_)
        · rw [if_pos hc] at hf
          refine v_iconst (pc := 114) (v := (1 : Int32)) C dX10_clash_114 rfl ?_
          refine v_goto (pc := 115) (tgt := 119) C dX10_clash_115 rfl ?_
          cases hf
          exact v_zreturn (pc := 119) C X.2.1 X.2.2.1 X.2.2.2.1 (by decide) rfl dX10_clash_119
        · rw [if_neg hc] at hf
          refine v_aload_n (pc := 102) (j := 2) C dX10_clash_102 rfl rfl ?_
          obtain ⟨x41, ex41, hf⟩ := oB hf
          refine v_getF (pc := 103) C lk_X10_64 (gR_eq ex41) dX10_clash_103 ?_
          refine v_iload (pc := 106) (j := 0) C dX10_clash_106 rfl ?_
          obtain ⟨x42, ex42, hf⟩ := oB hf
          refine v_aaload (pc := 108) C ex42 dX10_clash_108 ?_
          refine v_iload_n (pc := 109) (j := 1) C dX10_clash_109 rfl rfl ?_
          obtain ⟨x43, ex43, hf⟩ := oB hf
          refine v_baload (pc := 110) C ex43 dX10_clash_110 ?_
          refine v_if_eq (pc := 111) (tgt := 118) C dX10_clash_111 rfl (fun hc => ?_) (fun hc => ?_)
          · rw [if_pos hc] at hf
            refine v_iconst (pc := 118) (v := (0 : Int32)) C dX10_clash_118 rfl ?_
            cases hf
            exact v_zreturn (pc := 119) C X.2.1 X.2.2.1 X.2.2.2.1 (by decide) rfl dX10_clash_119
          · rw [if_neg hc] at hf
            refine v_iconst (pc := 114) (v := (1 : Int32)) C dX10_clash_114 rfl ?_
            refine v_goto (pc := 115) (tgt := 119) C dX10_clash_115 rfl ?_
            cases hf
            exact v_zreturn (pc := 119) C X.2.1 X.2.2.1 X.2.2.2.1 (by decide) rfl dX10_clash_119
theorem mX10_clash {l : Launch} {D : aD} {h : aH} {a0 : Option Nat} {a1 : Int32} {a2 : Int32} {q : Int32} (hst : l.stackTraces = false) (hf : fX10_clash D h a0 a1 a2 = some q) : aM l D yX10_clash cX10_clash 5 (some .boolean) 4 86 [va_rf a0, .int a1, .int a2] h (.inr (some (.int q)), h) :=
  aM.ofX [(false, va_rf a0), (false, .int a1), (false, .int a2)] rfl (ap_r (ap_c rfl (ap_c rfl ap_0))) (by decide +kernel) hst (al_of (aw_r (aw_i (aw_i aw_0))) (by decide)) fun p e s m args below meth c X => V.sub (lv' := [(0, false, va_rf a0), (1, false, .int a1), (2, false, .int a2)]) [0, 1, 2] rfl (vX10_clash X hf)
def fX10_date_p58 (D : aD) (K9 : aH → (Option Nat) → Int32 → (Option Nat) → Int32 → Option (aH)) (h : aH) (a0 : Option Nat) (a1 : Int32) (a2 : Option Nat) (a3 : Int32) : Option (aH) :=
  K9 h a0 a1 a2 (a3 + 1)
theorem vX10_date_p58 {h : aH} {K9 : aH → (Option Nat) → Int32 → (Option Nat) → Int32 → Option (aH)} {a0 : Option Nat} {a1 : Int32} {a2 : Option Nat} {a3 : Int32} {g : aH} (X : aX p l R s m meth c D n0 s0 yX10_date cX10_date 5 110 10 (none) h0) (k9 : ∀ (h : aH) (a0 : Option Nat) (a1 : Int32) (a2 : Option Nat) (a3 : Int32) (g : aH), K9 h a0 a1 a2 a3 = some g → V p l e R s m args below meth c D n0 s0 (aEnd D below args s h0 (.inr none, g)) h 9 [(0, false, va_rf a0), (1, false, .int a1), (2, false, va_rf a2), (3, false, .int a3)] []) (hf : fX10_date_p58 D K9 h a0 a1 a2 a3 = some g) : V p l e R s m args below meth c D n0 s0 (aEnd D below args s h0 (.inr none, g)) h 58 [(0, false, va_rf a0), (1, false, .int a1), (2, false, va_rf a2), (3, false, .int a3)] [] := by
  have C := X.1
  unfold fX10_date_p58 at hf
  refine v_iinc (pc := 58) (j := 3) (v := (a3 + 1)) (lv' := [(3, false, .int (a3 + 1)), (0, false, va_rf a0), (1, false, .int a1), (2, false, va_rf a2)]) C dX10_date_58 rfl rfl (by decide) rfl ?_
  refine v_goto (pc := 61) (tgt := 9) C dX10_date_61 rfl ?_
  exact V.sub [1, 2, 3, 0] rfl (k9 _ _ _ _ _ _ hf)
def fX10_date_p112 (D : aD) (K71 : aH → (Option Nat) → Int32 → (Option Nat) → (Option Nat) → Int32 → Option (aH)) (K80 : aH → (Option Nat) → Int32 → (Option Nat) → (Option Nat) → Int32 → Int32 → Option (aH)) (h : aH) (a0 : Option Nat) (a1 : Int32) (a2 : Option Nat) (a3 : Option Nat) (a4 : Int32) (a5 : Int32) : Option (aH) :=
  K80 h a0 a1 a2 a3 a4 (a5 + 1)
theorem vX10_date_p112 {h : aH} {K71 : aH → (Option Nat) → Int32 → (Option Nat) → (Option Nat) → Int32 → Option (aH)} {K80 : aH → (Option Nat) → Int32 → (Option Nat) → (Option Nat) → Int32 → Int32 → Option (aH)} {a0 : Option Nat} {a1 : Int32} {a2 : Option Nat} {a3 : Option Nat} {a4 : Int32} {a5 : Int32} {g : aH} (X : aX p l R s m meth c D n0 s0 yX10_date cX10_date 5 110 10 (none) h0) (k71 : ∀ (h : aH) (a0 : Option Nat) (a1 : Int32) (a2 : Option Nat) (a3 : Option Nat) (a4 : Int32) (g : aH), K71 h a0 a1 a2 a3 a4 = some g → V p l e R s m args below meth c D n0 s0 (aEnd D below args s h0 (.inr none, g)) h 71 [(0, false, va_rf a0), (1, false, .int a1), (2, false, va_rf a2), (3, false, va_rf a3), (4, false, .int a4)] []) (k80 : ∀ (h : aH) (a0 : Option Nat) (a1 : Int32) (a2 : Option Nat) (a3 : Option Nat) (a4 : Int32) (a5 : Int32) (g : aH), K80 h a0 a1 a2 a3 a4 a5 = some g → V p l e R s m args below meth c D n0 s0 (aEnd D below args s h0 (.inr none, g)) h 80 [(0, false, va_rf a0), (1, false, .int a1), (2, false, va_rf a2), (3, false, va_rf a3), (4, false, .int a4), (5, false, .int a5)] []) (hf : fX10_date_p112 D K71 K80 h a0 a1 a2 a3 a4 a5 = some g) : V p l e R s m args below meth c D n0 s0 (aEnd D below args s h0 (.inr none, g)) h 112 [(0, false, va_rf a0), (1, false, .int a1), (2, false, va_rf a2), (3, false, va_rf a3), (4, false, .int a4), (5, false, .int a5)] [] := by
  have C := X.1
  unfold fX10_date_p112 at hf
  refine v_iinc (pc := 112) (j := 5) (v := (a5 + 1)) (lv' := [(5, false, .int (a5 + 1)), (0, false, va_rf a0), (1, false, .int a1), (2, false, va_rf a2), (3, false, va_rf a3), (4, false, .int a4)]) C dX10_date_112 rfl rfl (by decide) rfl ?_
  refine v_goto (pc := 115) (tgt := 80) C dX10_date_115 rfl ?_
  exact V.sub [1, 2, 3, 4, 5, 0] rfl (k80 _ _ _ _ _ _ _ _ hf)
def fX10_date_p118 (D : aD) (K71 : aH → (Option Nat) → Int32 → (Option Nat) → (Option Nat) → Int32 → Option (aH)) (h : aH) (a0 : Option Nat) (a1 : Int32) (a2 : Option Nat) (a3 : Option Nat) (a4 : Int32) : Option (aH) :=
  K71 h a0 a1 a2 a3 (a4 + 1)
theorem vX10_date_p118 {h : aH} {K71 : aH → (Option Nat) → Int32 → (Option Nat) → (Option Nat) → Int32 → Option (aH)} {a0 : Option Nat} {a1 : Int32} {a2 : Option Nat} {a3 : Option Nat} {a4 : Int32} {g : aH} (X : aX p l R s m meth c D n0 s0 yX10_date cX10_date 5 110 10 (none) h0) (k71 : ∀ (h : aH) (a0 : Option Nat) (a1 : Int32) (a2 : Option Nat) (a3 : Option Nat) (a4 : Int32) (g : aH), K71 h a0 a1 a2 a3 a4 = some g → V p l e R s m args below meth c D n0 s0 (aEnd D below args s h0 (.inr none, g)) h 71 [(0, false, va_rf a0), (1, false, .int a1), (2, false, va_rf a2), (3, false, va_rf a3), (4, false, .int a4)] []) (hf : fX10_date_p118 D K71 h a0 a1 a2 a3 a4 = some g) : V p l e R s m args below meth c D n0 s0 (aEnd D below args s h0 (.inr none, g)) h 118 [(0, false, va_rf a0), (1, false, .int a1), (2, false, va_rf a2), (3, false, va_rf a3), (4, false, .int a4)] [] := by
  have C := X.1
  unfold fX10_date_p118 at hf
  refine v_iinc (pc := 118) (j := 4) (v := (a4 + 1)) (lv' := [(4, false, .int (a4 + 1)), (0, false, va_rf a0), (1, false, .int a1), (2, false, va_rf a2), (3, false, va_rf a3)]) C dX10_date_118 rfl rfl (by decide) rfl ?_
  refine v_goto (pc := 121) (tgt := 71) C dX10_date_121 rfl ?_
  exact V.sub [1, 2, 3, 4, 0] rfl (k71 _ _ _ _ _ _ _ hf)
def fX10_date_p80 (D : aD) (K71 : aH → (Option Nat) → Int32 → (Option Nat) → (Option Nat) → Int32 → Option (aH)) : Nat → aH → (Option Nat) → Int32 → (Option Nat) → (Option Nat) → Int32 → Int32 → Option (aH)
  | 0, _, _, _, _, _, _, _ => none
  | n + 1, h, a0, a1, a2, a3, a4, a5 =>
  if a1 ≤ a5 then
  (fX10_date_p118 D K71 h a0 a1 a2 a3 a4)
  else
  ((eI h a2 a4).bind fun x1 =>
  (eI h a2 a5).bind fun x2 =>
  (aIs h 9 a0).bind fun _ =>
  (fX10_clash D h a0 x1 x2).bind fun x4 =>
  if x4 = 0 then
  (fX10_date_p112 D K71 (fX10_date_p80 D K71 n) h a0 a1 a2 a3 a4 a5)
  else
  ((eI h a3 a4).bind fun x6 =>
  (sF D h 100 a3 a4 (.int (x6 ||| ((1 : Int32) <<< (a5 &&& 31))))).bind fun h7 =>
  fX10_date_p112 D K71 (fX10_date_p80 D K71 n) h7 a0 a1 a2 a3 a4 a5))
theorem vX10_date_p80 {K71 : aH → (Option Nat) → Int32 → (Option Nat) → (Option Nat) → Int32 → Option (aH)} (X : aX p l R s m meth c D n0 s0 yX10_date cX10_date 5 110 10 (none) h0) (k71 : ∀ (h : aH) (a0 : Option Nat) (a1 : Int32) (a2 : Option Nat) (a3 : Option Nat) (a4 : Int32) (g : aH), K71 h a0 a1 a2 a3 a4 = some g → V p l e R s m args below meth c D n0 s0 (aEnd D below args s h0 (.inr none, g)) h 71 [(0, false, va_rf a0), (1, false, .int a1), (2, false, va_rf a2), (3, false, va_rf a3), (4, false, .int a4)] []) : ∀ (n : Nat) (h : aH) (a0 : Option Nat) (a1 : Int32) (a2 : Option Nat) (a3 : Option Nat) (a4 : Int32) (a5 : Int32) (g : aH), fX10_date_p80 D K71 n h a0 a1 a2 a3 a4 a5 = some g → V p l e R s m args below meth c D n0 s0 (aEnd D below args s h0 (.inr none, g)) h 80 [(0, false, va_rf a0), (1, false, .int a1), (2, false, va_rf a2), (3, false, va_rf a3), (4, false, .int a4), (5, false, .int a5)] [] := by
  have C := X.1
  intro n
  induction n with
  | zero =>
    intro _ _ _ _ _ _ _ _ hf
    rw [fX10_date_p80] at hf
    cases hf
  | succ n ih =>
    intro h a0 a1 a2 a3 a4 a5 g hf
    rw [fX10_date_p80] at hf
    refine v_iload (pc := 80) (j := 5) C dX10_date_80 rfl ?_
    refine v_iload_n (pc := 82) (j := 1) C dX10_date_82 rfl rfl ?_
    refine v_icmp_ge (pc := 83) (tgt := 118) C dX10_date_83 rfl (fun hc => ?_) (fun hc => ?_)
    · rw [if_pos hc] at hf
      exact V.sub [0, 1, 2, 3, 4] rfl (vX10_date_p118 X k71 hf)
    · rw [if_neg hc] at hf
      refine v_aload_n (pc := 86) (j := 0) C dX10_date_86 rfl rfl ?_
      refine v_aload_n (pc := 87) (j := 2) C dX10_date_87 rfl rfl ?_
      refine v_iload (pc := 88) (j := 4) C dX10_date_88 rfl ?_
      obtain ⟨x1, ex1, hf⟩ := oB hf
      refine v_iaload (pc := 90) C ex1 dX10_date_90 ?_
      refine v_aload_n (pc := 91) (j := 2) C dX10_date_91 rfl rfl ?_
      refine v_iload (pc := 92) (j := 5) C dX10_date_92 rfl ?_
      obtain ⟨x2, ex2, hf⟩ := oB hf
      refine v_iaload (pc := 94) C ex2 dX10_date_94 ?_
      obtain ⟨b3, eb3, hf⟩ := oB hf
      obtain ⟨rb3, _, kb3⟩ := aIs_eq eb3
      obtain ⟨x4, ex4, hf⟩ := oB hf
      refine v_call (pc := 95) (d_V (pc := 95) C (As := [.int x1, .int x2]) (rest := []) rb3 kb3 nt_9 q2716 yi_X10_clash_FigureSurveyModel_Found yk_X10_clash rfl (by decide) (by decide) (Nat.le_trans aw_0 (by decide)) rfl (mX10_clash C.st ex4) dX10_date_95) ?_
      refine v_if_eq (pc := 98) (tgt := 112) C dX10_date_98 rfl (fun hc => ?_) (fun hc => ?_)
      · rw [if_pos hc] at hf
        exact V.sub [0, 1, 2, 3, 4, 5] rfl (vX10_date_p112 X k71 ih hf)
      · rw [if_neg hc] at hf
        refine v_aload_n (pc := 101) (j := 3) C dX10_date_101 rfl rfl ?_
        refine v_iload (pc := 102) (j := 4) C dX10_date_102 rfl ?_
        refine v_dup2_11 (pc := 104) C dX10_date_104 rfl (va_rfc _) ?_
        obtain ⟨x6, ex6, hf⟩ := oB hf
        refine v_iaload (pc := 105) C ex6 dX10_date_105 ?_
        refine v_iconst (pc := 106) (v := (1 : Int32)) C dX10_date_106 rfl ?_
        refine v_iload (pc := 107) (j := 5) C dX10_date_107 rfl ?_
        refine v_ishl (pc := 109) C dX10_date_109 ?_
        refine v_ior (pc := 110) C dX10_date_110 ?_
        obtain ⟨h7, eh7, hf⟩ := oB hf
        refine v_iastore (pc := 111) C eh7 dX10_date_111 ?_
        exact V.sub [0, 1, 2, 3, 4, 5] rfl (vX10_date_p112 X k71 ih hf)
def fX10_date_p217 (D : aD) (K134 : aH → (Option Nat) → Int32 → (Option Nat) → (Option Nat) → Int32 → Int32 → Int32 → Option (aH)) (K151 : aH → (Option Nat) → Int32 → (Option Nat) → (Option Nat) → Int32 → Int32 → Int32 → Int32 → Int32 → Int32 → Option (aH)) (h : aH) (a0 : Option Nat) (a1 : Int32) (a2 : Option Nat) (a3 : Option Nat) (a4 : Int32) (a5 : Int32) (a6 : Int32) (a7 : Int32) (a8 : Int32) (a9 : Int32) : Option (aH) :=
  K151 h a0 a1 a2 a3 a4 a5 a6 a7 a8 (a9 + 1)
theorem vX10_date_p217 {h : aH} {K134 : aH → (Option Nat) → Int32 → (Option Nat) → (Option Nat) → Int32 → Int32 → Int32 → Option (aH)} {K151 : aH → (Option Nat) → Int32 → (Option Nat) → (Option Nat) → Int32 → Int32 → Int32 → Int32 → Int32 → Int32 → Option (aH)} {a0 : Option Nat} {a1 : Int32} {a2 : Option Nat} {a3 : Option Nat} {a4 : Int32} {a5 : Int32} {a6 : Int32} {a7 : Int32} {a8 : Int32} {a9 : Int32} {g : aH} (X : aX p l R s m meth c D n0 s0 yX10_date cX10_date 5 110 10 (none) h0) (k134 : ∀ (h : aH) (a0 : Option Nat) (a1 : Int32) (a2 : Option Nat) (a3 : Option Nat) (a4 : Int32) (a5 : Int32) (a6 : Int32) (g : aH), K134 h a0 a1 a2 a3 a4 a5 a6 = some g → V p l e R s m args below meth c D n0 s0 (aEnd D below args s h0 (.inr none, g)) h 134 [(0, false, va_rf a0), (1, false, .int a1), (2, false, va_rf a2), (3, false, va_rf a3), (4, false, .int a4), (5, false, .int a5), (6, false, .int a6)] []) (k151 : ∀ (h : aH) (a0 : Option Nat) (a1 : Int32) (a2 : Option Nat) (a3 : Option Nat) (a4 : Int32) (a5 : Int32) (a6 : Int32) (a7 : Int32) (a8 : Int32) (a9 : Int32) (g : aH), K151 h a0 a1 a2 a3 a4 a5 a6 a7 a8 a9 = some g → V p l e R s m args below meth c D n0 s0 (aEnd D below args s h0 (.inr none, g)) h 151 [(0, false, va_rf a0), (1, false, .int a1), (2, false, va_rf a2), (3, false, va_rf a3), (4, false, .int a4), (5, false, .int a5), (6, false, .int a6), (7, false, .int a7), (8, false, .int a8), (9, false, .int a9)] []) (hf : fX10_date_p217 D K134 K151 h a0 a1 a2 a3 a4 a5 a6 a7 a8 a9 = some g) : V p l e R s m args below meth c D n0 s0 (aEnd D below args s h0 (.inr none, g)) h 217 [(0, false, va_rf a0), (1, false, .int a1), (2, false, va_rf a2), (3, false, va_rf a3), (4, false, .int a4), (5, false, .int a5), (6, false, .int a6), (7, false, .int a7), (8, false, .int a8), (9, false, .int a9)] [] := by
  have C := X.1
  unfold fX10_date_p217 at hf
  refine v_iinc (pc := 217) (j := 9) (v := (a9 + 1)) (lv' := [(9, false, .int (a9 + 1)), (0, false, va_rf a0), (1, false, .int a1), (2, false, va_rf a2), (3, false, va_rf a3), (4, false, .int a4), (5, false, .int a5), (6, false, .int a6), (7, false, .int a7), (8, false, .int a8)]) C dX10_date_217 rfl rfl (by decide) rfl ?_
  refine v_goto (pc := 220) (tgt := 151) C dX10_date_220 rfl ?_
  exact V.sub [1, 2, 3, 4, 5, 6, 7, 8, 9, 0] rfl (k151 _ _ _ _ _ _ _ _ _ _ _ _ hf)
def fX10_date_p214 (D : aD) (K134 : aH → (Option Nat) → Int32 → (Option Nat) → (Option Nat) → Int32 → Int32 → Int32 → Option (aH)) (K151 : aH → (Option Nat) → Int32 → (Option Nat) → (Option Nat) → Int32 → Int32 → Int32 → Int32 → Int32 → Int32 → Option (aH)) (h : aH) (a0 : Option Nat) (a1 : Int32) (a2 : Option Nat) (a3 : Option Nat) (a4 : Int32) (a5 : Int32) (a6 : Int32) (a7 : Int32) (a9 : Int32) (t0 : Int32) (t1 : Int32) : Option (aH) :=
  (some ((t0 &&& t1))).bind fun x1 =>
  fX10_date_p217 D K134 K151 h a0 a1 a2 a3 a4 a5 a6 a7 x1 a9
theorem vX10_date_p214 {h : aH} {K134 : aH → (Option Nat) → Int32 → (Option Nat) → (Option Nat) → Int32 → Int32 → Int32 → Option (aH)} {K151 : aH → (Option Nat) → Int32 → (Option Nat) → (Option Nat) → Int32 → Int32 → Int32 → Int32 → Int32 → Int32 → Option (aH)} {a0 : Option Nat} {a1 : Int32} {a2 : Option Nat} {a3 : Option Nat} {a4 : Int32} {a5 : Int32} {a6 : Int32} {a7 : Int32} {a9 : Int32} {t0 : Int32} {t1 : Int32} {g : aH} (X : aX p l R s m meth c D n0 s0 yX10_date cX10_date 5 110 10 (none) h0) (k134 : ∀ (h : aH) (a0 : Option Nat) (a1 : Int32) (a2 : Option Nat) (a3 : Option Nat) (a4 : Int32) (a5 : Int32) (a6 : Int32) (g : aH), K134 h a0 a1 a2 a3 a4 a5 a6 = some g → V p l e R s m args below meth c D n0 s0 (aEnd D below args s h0 (.inr none, g)) h 134 [(0, false, va_rf a0), (1, false, .int a1), (2, false, va_rf a2), (3, false, va_rf a3), (4, false, .int a4), (5, false, .int a5), (6, false, .int a6)] []) (k151 : ∀ (h : aH) (a0 : Option Nat) (a1 : Int32) (a2 : Option Nat) (a3 : Option Nat) (a4 : Int32) (a5 : Int32) (a6 : Int32) (a7 : Int32) (a8 : Int32) (a9 : Int32) (g : aH), K151 h a0 a1 a2 a3 a4 a5 a6 a7 a8 a9 = some g → V p l e R s m args below meth c D n0 s0 (aEnd D below args s h0 (.inr none, g)) h 151 [(0, false, va_rf a0), (1, false, .int a1), (2, false, va_rf a2), (3, false, va_rf a3), (4, false, .int a4), (5, false, .int a5), (6, false, .int a6), (7, false, .int a7), (8, false, .int a8), (9, false, .int a9)] []) (hf : fX10_date_p214 D K134 K151 h a0 a1 a2 a3 a4 a5 a6 a7 a9 t0 t1 = some g) : V p l e R s m args below meth c D n0 s0 (aEnd D below args s h0 (.inr none, g)) h 214 [(0, false, va_rf a0), (1, false, .int a1), (2, false, va_rf a2), (3, false, va_rf a3), (4, false, .int a4), (5, false, .int a5), (6, false, .int a6), (7, false, .int a7), (9, false, .int a9)] [.int t1, .int t0] := by
  have C := X.1
  unfold fX10_date_p214 at hf
  refine v_iand (pc := 214) C dX10_date_214 ?_
  obtain ⟨x1, ex1, hf⟩ := oB hf
  refine vst (Option.some.inj ex1) (fun z => .int z :: []) ?_
  refine v_istore (pc := 215) (lv' := [(8, false, .int x1), (0, false, va_rf a0), (1, false, .int a1), (2, false, va_rf a2), (3, false, va_rf a3), (4, false, .int a4), (5, false, .int a5), (6, false, .int a6), (7, false, .int a7), (9, false, .int a9)]) C dX10_date_215 (by decide) rfl ?_
  exact V.sub [1, 2, 3, 4, 5, 6, 7, 8, 0, 9] rfl (vX10_date_p217 X k134 k151 hf)
def fX10_date_p243 (D : aD) (K134 : aH → (Option Nat) → Int32 → (Option Nat) → (Option Nat) → Int32 → Int32 → Int32 → Option (aH)) (h : aH) (a0 : Option Nat) (a1 : Int32) (a2 : Option Nat) (a3 : Option Nat) (a4 : Int32) (a5 : Int32) (a6 : Int32) : Option (aH) :=
  K134 h a0 a1 a2 a3 a4 a5 (a6 + 1)
theorem vX10_date_p243 {h : aH} {K134 : aH → (Option Nat) → Int32 → (Option Nat) → (Option Nat) → Int32 → Int32 → Int32 → Option (aH)} {a0 : Option Nat} {a1 : Int32} {a2 : Option Nat} {a3 : Option Nat} {a4 : Int32} {a5 : Int32} {a6 : Int32} {g : aH} (X : aX p l R s m meth c D n0 s0 yX10_date cX10_date 5 110 10 (none) h0) (k134 : ∀ (h : aH) (a0 : Option Nat) (a1 : Int32) (a2 : Option Nat) (a3 : Option Nat) (a4 : Int32) (a5 : Int32) (a6 : Int32) (g : aH), K134 h a0 a1 a2 a3 a4 a5 a6 = some g → V p l e R s m args below meth c D n0 s0 (aEnd D below args s h0 (.inr none, g)) h 134 [(0, false, va_rf a0), (1, false, .int a1), (2, false, va_rf a2), (3, false, va_rf a3), (4, false, .int a4), (5, false, .int a5), (6, false, .int a6)] []) (hf : fX10_date_p243 D K134 h a0 a1 a2 a3 a4 a5 a6 = some g) : V p l e R s m args below meth c D n0 s0 (aEnd D below args s h0 (.inr none, g)) h 243 [(0, false, va_rf a0), (1, false, .int a1), (2, false, va_rf a2), (3, false, va_rf a3), (4, false, .int a4), (5, false, .int a5), (6, false, .int a6)] [] := by
  have C := X.1
  unfold fX10_date_p243 at hf
  refine v_iinc (pc := 243) (j := 6) (v := (a6 + 1)) (lv' := [(6, false, .int (a6 + 1)), (0, false, va_rf a0), (1, false, .int a1), (2, false, va_rf a2), (3, false, va_rf a3), (4, false, .int a4), (5, false, .int a5)]) C dX10_date_243 rfl rfl (by decide) rfl ?_
  refine v_goto (pc := 246) (tgt := 134) C dX10_date_246 rfl ?_
  exact V.sub [1, 2, 3, 4, 5, 6, 0] rfl (k134 _ _ _ _ _ _ _ _ _ hf)
def fX10_date_p223 (D : aD) (K134 : aH → (Option Nat) → Int32 → (Option Nat) → (Option Nat) → Int32 → Int32 → Int32 → Option (aH)) (h : aH) (a0 : Option Nat) (a1 : Int32) (a2 : Option Nat) (a3 : Option Nat) (a4 : Int32) (a5 : Int32) (a6 : Int32) (a7 : Int32) (a8 : Int32) : Option (aH) :=
  fX10_date_p243 D K134 h a0 a1 a2 a3 (if a8 = 0 then a4 else (if a5 ≤ a7 then a4 else a6)) (if a8 = 0 then a5 else (if a5 ≤ a7 then a5 else a7)) a6
theorem vX10_date_p223 {h : aH} {K134 : aH → (Option Nat) → Int32 → (Option Nat) → (Option Nat) → Int32 → Int32 → Int32 → Option (aH)} {a0 : Option Nat} {a1 : Int32} {a2 : Option Nat} {a3 : Option Nat} {a4 : Int32} {a5 : Int32} {a6 : Int32} {a7 : Int32} {a8 : Int32} {g : aH} (X : aX p l R s m meth c D n0 s0 yX10_date cX10_date 5 110 10 (none) h0) (k134 : ∀ (h : aH) (a0 : Option Nat) (a1 : Int32) (a2 : Option Nat) (a3 : Option Nat) (a4 : Int32) (a5 : Int32) (a6 : Int32) (g : aH), K134 h a0 a1 a2 a3 a4 a5 a6 = some g → V p l e R s m args below meth c D n0 s0 (aEnd D below args s h0 (.inr none, g)) h 134 [(0, false, va_rf a0), (1, false, .int a1), (2, false, va_rf a2), (3, false, va_rf a3), (4, false, .int a4), (5, false, .int a5), (6, false, .int a6)] []) (hf : fX10_date_p223 D K134 h a0 a1 a2 a3 a4 a5 a6 a7 a8 = some g) : V p l e R s m args below meth c D n0 s0 (aEnd D below args s h0 (.inr none, g)) h 223 [(0, false, va_rf a0), (1, false, .int a1), (2, false, va_rf a2), (3, false, va_rf a3), (4, false, .int a4), (5, false, .int a5), (6, false, .int a6), (7, false, .int a7), (8, false, .int a8)] [] := by
  have C := X.1
  unfold fX10_date_p223 at hf
  refine v_iload (pc := 223) (j := 8) C dX10_date_223 rfl ?_
  refine v_if_eq (pc := 225) (tgt := 243) C dX10_date_225 rfl (fun hc => ?_) (fun hc => ?_)
  · simp only [if_pos hc] at hf
    exact V.sub [0, 1, 2, 3, 4, 5, 6] rfl (vX10_date_p243 X k134 hf)
  · simp only [if_neg hc] at hf
    refine v_iload (pc := 228) (j := 7) C dX10_date_228 rfl ?_
    refine v_iload (pc := 230) (j := 5) C dX10_date_230 rfl ?_
    refine v_icmp_ge (pc := 232) (tgt := 243) C dX10_date_232 rfl (fun hc => ?_) (fun hc => ?_)
    · simp only [if_pos hc] at hf
      exact V.sub [0, 1, 2, 3, 4, 5, 6] rfl (vX10_date_p243 X k134 hf)
    · simp only [if_neg hc] at hf
      refine v_iload (pc := 235) (j := 6) C dX10_date_235 rfl ?_
      refine v_istore (pc := 237) (lv' := [(4, false, .int a6), (0, false, va_rf a0), (1, false, .int a1), (2, false, va_rf a2), (3, false, va_rf a3), (5, false, .int a5), (6, false, .int a6), (7, false, .int a7), (8, false, .int a8)]) C dX10_date_237 (by decide) rfl ?_
      refine v_iload (pc := 239) (j := 7) C dX10_date_239 rfl ?_
      refine v_istore (pc := 241) (lv' := [(5, false, .int a7), (4, false, .int a6), (0, false, va_rf a0), (1, false, .int a1), (2, false, va_rf a2), (3, false, va_rf a3), (6, false, .int a6), (7, false, .int a7), (8, false, .int a8)]) C dX10_date_241 (by decide) rfl ?_
      exact V.sub [2, 3, 4, 5, 1, 0, 6] rfl (vX10_date_p243 X k134 hf)
def fX10_date_p151 (D : aD) (K134 : aH → (Option Nat) → Int32 → (Option Nat) → (Option Nat) → Int32 → Int32 → Int32 → Option (aH)) : Nat → aH → (Option Nat) → Int32 → (Option Nat) → (Option Nat) → Int32 → Int32 → Int32 → Int32 → Int32 → Int32 → Option (aH)
  | 0, _, _, _, _, _, _, _, _, _, _, _ => none
  | n + 1, h, a0, a1, a2, a3, a4, a5, a6, a7, a8, a9 =>
  if a1 ≤ a9 then
  (fX10_date_p223 D K134 h a0 a1 a2 a3 a4 a5 a6 a7 a8)
  else
  (if ((a6 >>> (a9 &&& 31)) &&& (1 : Int32)) = (1 : Int32) then
  ((gR h 9 7 a0).bind fun x2 =>
  (gR h 1 13 x2).bind fun x3 =>
  (eI h a2 a9).bind fun x4 =>
  (aIs h 15 x3).bind fun _ =>
  (fJ2_get D h x3 x4).bind fun x6 =>
  (aCast h [100] x6).bind fun _ =>
  (eI h x6 (3 : Int32)).bind fun x9 =>
  (some ((a7 + x9))).bind fun x10 =>
  fX10_date_p217 D K134 (fX10_date_p151 D K134 n) h a0 a1 a2 a3 a4 a5 a6 x10 a8 a9)
  else
  ((eI h a3 a9).bind fun x1 =>
  fX10_date_p214 D K134 (fX10_date_p151 D K134 n) h a0 a1 a2 a3 a4 a5 a6 a7 a9 a8 (if (x1 &&& (a6 ^^^ (-1 : Int32))) = 0 then (1 : Int32) else (0 : Int32))))
theorem vX10_date_p151 {K134 : aH → (Option Nat) → Int32 → (Option Nat) → (Option Nat) → Int32 → Int32 → Int32 → Option (aH)} (X : aX p l R s m meth c D n0 s0 yX10_date cX10_date 5 110 10 (none) h0) (k134 : ∀ (h : aH) (a0 : Option Nat) (a1 : Int32) (a2 : Option Nat) (a3 : Option Nat) (a4 : Int32) (a5 : Int32) (a6 : Int32) (g : aH), K134 h a0 a1 a2 a3 a4 a5 a6 = some g → V p l e R s m args below meth c D n0 s0 (aEnd D below args s h0 (.inr none, g)) h 134 [(0, false, va_rf a0), (1, false, .int a1), (2, false, va_rf a2), (3, false, va_rf a3), (4, false, .int a4), (5, false, .int a5), (6, false, .int a6)] []) : ∀ (n : Nat) (h : aH) (a0 : Option Nat) (a1 : Int32) (a2 : Option Nat) (a3 : Option Nat) (a4 : Int32) (a5 : Int32) (a6 : Int32) (a7 : Int32) (a8 : Int32) (a9 : Int32) (g : aH), fX10_date_p151 D K134 n h a0 a1 a2 a3 a4 a5 a6 a7 a8 a9 = some g → V p l e R s m args below meth c D n0 s0 (aEnd D below args s h0 (.inr none, g)) h 151 [(0, false, va_rf a0), (1, false, .int a1), (2, false, va_rf a2), (3, false, va_rf a3), (4, false, .int a4), (5, false, .int a5), (6, false, .int a6), (7, false, .int a7), (8, false, .int a8), (9, false, .int a9)] [] := by
  have C := X.1
  intro n
  induction n with
  | zero =>
    intro _ _ _ _ _ _ _ _ _ _ _ _ hf
    rw [fX10_date_p151] at hf
    cases hf
  | succ n ih =>
    intro h a0 a1 a2 a3 a4 a5 a6 a7 a8 a9 g hf
    rw [fX10_date_p151] at hf
    refine v_iload (pc := 151) (j := 9) C dX10_date_151 rfl ?_
    refine v_iload_n (pc := 153) (j := 1) C dX10_date_153 rfl rfl ?_
    refine v_icmp_ge (pc := 154) (tgt := 223) C dX10_date_154 rfl (fun hc => ?_) (fun hc => ?_)
    · rw [if_pos hc] at hf
      exact V.sub [0, 1, 2, 3, 4, 5, 6, 7, 8] rfl (vX10_date_p223 X k134 hf)
    · rw [if_neg hc] at hf
      refine v_iload (pc := 157) (j := 6) C dX10_date_157 rfl ?_
      refine v_iload (pc := 159) (j := 9) C dX10_date_159 rfl ?_
      refine v_ishr (pc := 161) C dX10_date_161 ?_
      refine v_iconst (pc := 162) (v := (1 : Int32)) C dX10_date_162 rfl ?_
      refine v_iand (pc := 163) C dX10_date_163 ?_
      refine v_iconst (pc := 164) (v := (1 : Int32)) C dX10_date_164 rfl ?_
      refine v_icmp_ne (pc := 165) (tgt := 195) C dX10_date_165 rfl (fun hc => ?_) (fun hc => ?_)
      · rw [if_neg hc] at hf
        refine v_iload (pc := 195) (j := 8) C dX10_date_195 rfl ?_
        refine v_aload_n (pc := 197) (j := 3) C dX10_date_197 rfl rfl ?_
        refine v_iload (pc := 198) (j := 9) C dX10_date_198 rfl ?_
        obtain ⟨x1, ex1, hf⟩ := oB hf
        refine v_iaload (pc := 200) C ex1 dX10_date_200 ?_
        refine v_iload (pc := 201) (j := 6) C dX10_date_201 rfl ?_
        refine v_iconst (pc := 203) (v := (-1 : Int32)) C dX10_date_203 rfl ?_
        refine v_ixor (pc := 204) C dX10_date_204 ?_
        refine v_iand (pc := 205) C dX10_date_205 ?_
        refine v_if_ne (pc := 206) (tgt := 213) C dX10_date_206 rfl (fun hc => ?_) (fun hc => ?_)
        · simp only [if_neg hc] at hf
          refine v_iconst (pc := 213) (v := (0 : Int32)) C dX10_date_213 rfl ?_
          exact V.sub [0, 1, 2, 3, 4, 5, 6, 7, 9] rfl (vX10_date_p214 X k134 ih hf)
        · simp only [if_pos (Decidable.of_not_not hc)] at hf
          refine v_iconst (pc := 209) (v := (1 : Int32)) C dX10_date_209 rfl ?_
          refine v_goto (pc := 210) (tgt := 214) C dX10_date_210 rfl ?_
          exact V.sub [0, 1, 2, 3, 4, 5, 6, 7, 9] rfl (vX10_date_p214 X k134 ih hf)
      · rw [if_pos (Decidable.of_not_not hc)] at hf
        refine v_iload (pc := 168) (j := 7) C dX10_date_168 rfl ?_
        refine v_aload_n (pc := 170) (j := 0) C dX10_date_170 rfl rfl ?_
        obtain ⟨x2, ex2, hf⟩ := oB hf
        refine v_getF (pc := 171) C lk_X10_3 (gR_eq ex2) dX10_date_171 ?_
        obtain ⟨x3, ex3, hf⟩ := oB hf
        refine v_getF (pc := 174) C lk_X10_21 (gR_eq ex3) dX10_date_174 ?_
        refine v_aload_n (pc := 177) (j := 2) C dX10_date_177 rfl rfl ?_
        refine v_iload (pc := 178) (j := 9) C dX10_date_178 rfl ?_
        obtain ⟨x4, ex4, hf⟩ := oB hf
        refine v_iaload (pc := 180) C ex4 dX10_date_180 ?_
        obtain ⟨b5, eb5, hf⟩ := oB hf
        obtain ⟨rb5, _, kb5⟩ := aIs_eq eb5
        obtain ⟨x6, ex6, hf⟩ := oB hf
        refine v_call (pc := 181) (d_V (pc := 181) C (As := [.int x4]) (rest := [.int a7]) rb5 kb5 nt_15 q2692 yi_J2_get_java_util_ArrayList yk_J2_get rfl (by decide) (by decide) (Nat.le_trans (aw_i aw_0) (by decide)) rfl (mJ2_get C.st ex6) dX10_date_181) ?_
        obtain ⟨_, e8, hf⟩ := oB hf
        refine v_cast (pc := 184) C q2688 ct__I e8 dX10_date_184 ?_
        refine v_iconst (pc := 187) (v := (3 : Int32)) C dX10_date_187 rfl ?_
        obtain ⟨x9, ex9, hf⟩ := oB hf
        refine v_iaload (pc := 188) C ex9 dX10_date_188 ?_
        refine v_iadd (pc := 189) C dX10_date_189 ?_
        obtain ⟨x10, ex10, hf⟩ := oB hf
        refine vst (Option.some.inj ex10) (fun z => .int z :: []) ?_
        refine v_istore (pc := 190) (lv' := [(7, false, .int x10), (0, false, va_rf a0), (1, false, .int a1), (2, false, va_rf a2), (3, false, va_rf a3), (4, false, .int a4), (5, false, .int a5), (6, false, .int a6), (8, false, .int a8), (9, false, .int a9)]) C dX10_date_190 (by decide) rfl ?_
        refine v_goto (pc := 192) (tgt := 217) C dX10_date_192 rfl ?_
        exact V.sub [1, 2, 3, 4, 5, 6, 7, 0, 8, 9] rfl (vX10_date_p217 X k134 ih hf)
def fX10_date_p282 (D : aD) (K252 : aH → (Option Nat) → Int32 → (Option Nat) → Int32 → Int32 → Option (aH)) (h : aH) (a0 : Option Nat) (a1 : Int32) (a2 : Option Nat) (a4 : Int32) (a6 : Int32) (t0 : Option Nat) (t1 : Int32) (t2 : Int32) : Option (aH) :=
  (ckZ t2).bind fun _ =>
  (sF D h 102 t0 t1 (.int t2)).bind fun h1 =>
  K252 h1 a0 a1 a2 a4 (a6 + 1)
theorem vX10_date_p282 {h : aH} {K252 : aH → (Option Nat) → Int32 → (Option Nat) → Int32 → Int32 → Option (aH)} {a0 : Option Nat} {a1 : Int32} {a2 : Option Nat} {a4 : Int32} {a6 : Int32} {t0 : Option Nat} {t1 : Int32} {t2 : Int32} {g : aH} (X : aX p l R s m meth c D n0 s0 yX10_date cX10_date 5 110 10 (none) h0) (k252 : ∀ (h : aH) (a0 : Option Nat) (a1 : Int32) (a2 : Option Nat) (a4 : Int32) (a6 : Int32) (g : aH), K252 h a0 a1 a2 a4 a6 = some g → V p l e R s m args below meth c D n0 s0 (aEnd D below args s h0 (.inr none, g)) h 252 [(0, false, va_rf a0), (1, false, .int a1), (2, false, va_rf a2), (4, false, .int a4), (6, false, .int a6)] []) (hf : fX10_date_p282 D K252 h a0 a1 a2 a4 a6 t0 t1 t2 = some g) : V p l e R s m args below meth c D n0 s0 (aEnd D below args s h0 (.inr none, g)) h 282 [(0, false, va_rf a0), (1, false, .int a1), (2, false, va_rf a2), (4, false, .int a4), (6, false, .int a6)] [.int t2, .int t1, va_rf t0] := by
  have C := X.1
  unfold fX10_date_p282 at hf
  obtain ⟨_, zh1, hf⟩ := oB hf
  obtain ⟨h1, eh1, hf⟩ := oB hf
  refine v_bastore (pc := 282) C (ckZ_eq zh1) eh1 dX10_date_282 ?_
  refine v_iinc (pc := 283) (j := 4) (v := (a6 + 1)) (lv' := [(6, false, .int (a6 + 1)), (0, false, va_rf a0), (1, false, .int a1), (2, false, va_rf a2), (4, false, .int a4)]) C dX10_date_283 rfl rfl (by decide) rfl ?_
  refine v_goto (pc := 286) (tgt := 252) C dX10_date_286 rfl ?_
  exact V.sub [1, 2, 3, 4, 0] rfl (k252 _ _ _ _ _ _ _ hf)
def fX10_date_p252 (D : aD) : Nat → aH → (Option Nat) → Int32 → (Option Nat) → Int32 → Int32 → Option (aH)
  | 0, _, _, _, _, _, _ => none
  | n + 1, h, a0, a1, a2, a4, a6 =>
  if a1 ≤ a6 then
  (some h)
  else
  ((gR h 9 5 a0).bind fun x1 =>
  (eI h a2 a6).bind fun x2 =>
  fX10_date_p282 D (fX10_date_p252 D n) h a0 a1 a2 a4 a6 x1 x2 (if ((a4 >>> (a6 &&& 31)) &&& (1 : Int32)) = (1 : Int32) then (1 : Int32) else (0 : Int32)))
theorem vX10_date_p252 (X : aX p l R s m meth c D n0 s0 yX10_date cX10_date 5 110 10 (none) h0) : ∀ (n : Nat) (h : aH) (a0 : Option Nat) (a1 : Int32) (a2 : Option Nat) (a4 : Int32) (a6 : Int32) (g : aH), fX10_date_p252 D n h a0 a1 a2 a4 a6 = some g → V p l e R s m args below meth c D n0 s0 (aEnd D below args s h0 (.inr none, g)) h 252 [(0, false, va_rf a0), (1, false, .int a1), (2, false, va_rf a2), (4, false, .int a4), (6, false, .int a6)] [] := by
  have C := X.1
  intro n
  induction n with
  | zero =>
    intro _ _ _ _ _ _ _ hf
    rw [fX10_date_p252] at hf
    cases hf
  | succ n ih =>
    intro h a0 a1 a2 a4 a6 g hf
    rw [fX10_date_p252] at hf
    refine v_iload (pc := 252) (j := 4) C dX10_date_252 rfl ?_
    refine v_iload_n (pc := 254) (j := 1) C dX10_date_254 rfl rfl ?_
    refine v_icmp_ge (pc := 255) (tgt := 289) C dX10_date_255 rfl (fun hc => ?_) (fun hc => ?_)
    · rw [if_pos hc] at hf
      cases hf
      exact v_return (pc := 289) C X.2.1 X.2.2.1 X.2.2.2.1 rfl dX10_date_289
    · rw [if_neg hc] at hf
      refine v_aload_n (pc := 258) (j := 0) C dX10_date_258 rfl rfl ?_
      obtain ⟨x1, ex1, hf⟩ := oB hf
      refine v_getF (pc := 259) C lk_X10_35 (gR_eq ex1) dX10_date_259 ?_
      refine v_aload_n (pc := 262) (j := 2) C dX10_date_262 rfl rfl ?_
      refine v_iload (pc := 263) (j := 4) C dX10_date_263 rfl ?_
      obtain ⟨x2, ex2, hf⟩ := oB hf
      refine v_iaload (pc := 265) C ex2 dX10_date_265 ?_
      refine v_iload (pc := 266) (j := 3) C dX10_date_266 rfl ?_
      refine v_iload (pc := 268) (j := 4) C dX10_date_268 rfl ?_
      refine v_ishr (pc := 270) C dX10_date_270 ?_
      refine v_iconst (pc := 271) (v := (1 : Int32)) C dX10_date_271 rfl ?_
      refine v_iand (pc := 272) C dX10_date_272 ?_
      refine v_iconst (pc := 273) (v := (1 : Int32)) C dX10_date_273 rfl ?_
      refine v_icmp_ne (pc := 274) (tgt := 281) C dX10_date_274 rfl (fun hc => ?_) (fun hc => ?_)
      · simp only [if_neg hc] at hf
        refine v_iconst (pc := 281) (v := (0 : Int32)) C dX10_date_281 rfl ?_
        exact V.sub [0, 1, 2, 3, 4] rfl (vX10_date_p282 X ih hf)
      · simp only [if_pos (Decidable.of_not_not hc)] at hf
        refine v_iconst (pc := 277) (v := (1 : Int32)) C dX10_date_277 rfl ?_
        refine v_goto (pc := 278) (tgt := 282) C dX10_date_278 rfl ?_
        exact V.sub [0, 1, 2, 3, 4] rfl (vX10_date_p282 X ih hf)
def fX10_date_p249 (D : aD) (h : aH) (a0 : Option Nat) (a1 : Int32) (a2 : Option Nat) (a4 : Int32) : Option (aH) :=
  fX10_date_p252 D FU h a0 a1 a2 a4 (0 : Int32)
theorem vX10_date_p249 {h : aH} {a0 : Option Nat} {a1 : Int32} {a2 : Option Nat} {a4 : Int32} {g : aH} (X : aX p l R s m meth c D n0 s0 yX10_date cX10_date 5 110 10 (none) h0) (hf : fX10_date_p249 D h a0 a1 a2 a4 = some g) : V p l e R s m args below meth c D n0 s0 (aEnd D below args s h0 (.inr none, g)) h 249 [(0, false, va_rf a0), (1, false, .int a1), (2, false, va_rf a2), (4, false, .int a4)] [] := by
  have C := X.1
  unfold fX10_date_p249 at hf
  refine v_iconst (pc := 249) (v := (0 : Int32)) C dX10_date_249 rfl ?_
  refine v_istore (pc := 250) (lv' := [(6, false, .int (0 : Int32)), (0, false, va_rf a0), (1, false, .int a1), (2, false, va_rf a2), (4, false, .int a4)]) C dX10_date_250 (by decide) rfl ?_
  exact V.sub [1, 2, 3, 4, 0] rfl (vX10_date_p252 X _ _ _ _ _ _ _ _ hf)
def fX10_date_p134 (D : aD) : Nat → aH → (Option Nat) → Int32 → (Option Nat) → (Option Nat) → Int32 → Int32 → Int32 → Option (aH)
  | 0, _, _, _, _, _, _, _, _ => none
  | n + 1, h, a0, a1, a2, a3, a4, a5, a6 =>
  if ((1 : Int32) <<< (a1 &&& 31)) ≤ a6 then
  (fX10_date_p249 D h a0 a1 a2 a4)
  else
  (fX10_date_p151 D (fX10_date_p134 D n) FU h a0 a1 a2 a3 a4 a5 a6 (0 : Int32) (1 : Int32) (0 : Int32))
theorem vX10_date_p134 (X : aX p l R s m meth c D n0 s0 yX10_date cX10_date 5 110 10 (none) h0) : ∀ (n : Nat) (h : aH) (a0 : Option Nat) (a1 : Int32) (a2 : Option Nat) (a3 : Option Nat) (a4 : Int32) (a5 : Int32) (a6 : Int32) (g : aH), fX10_date_p134 D n h a0 a1 a2 a3 a4 a5 a6 = some g → V p l e R s m args below meth c D n0 s0 (aEnd D below args s h0 (.inr none, g)) h 134 [(0, false, va_rf a0), (1, false, .int a1), (2, false, va_rf a2), (3, false, va_rf a3), (4, false, .int a4), (5, false, .int a5), (6, false, .int a6)] [] := by
  have C := X.1
  intro n
  induction n with
  | zero =>
    intro _ _ _ _ _ _ _ _ _ hf
    rw [fX10_date_p134] at hf
    cases hf
  | succ n ih =>
    intro h a0 a1 a2 a3 a4 a5 a6 g hf
    rw [fX10_date_p134] at hf
    refine v_iload (pc := 134) (j := 6) C dX10_date_134 rfl ?_
    refine v_iconst (pc := 136) (v := (1 : Int32)) C dX10_date_136 rfl ?_
    refine v_iload_n (pc := 137) (j := 1) C dX10_date_137 rfl rfl ?_
    refine v_ishl (pc := 138) C dX10_date_138 ?_
    refine v_icmp_ge (pc := 139) (tgt := 249) C dX10_date_139 rfl (fun hc => ?_) (fun hc => ?_)
    · rw [if_pos hc] at hf
      exact V.sub [0, 1, 2, 4] rfl (vX10_date_p249 X hf)
    · rw [if_neg hc] at hf
      refine v_iconst (pc := 142) (v := (0 : Int32)) C dX10_date_142 rfl ?_
      refine v_istore (pc := 143) (lv' := [(7, false, .int (0 : Int32)), (0, false, va_rf a0), (1, false, .int a1), (2, false, va_rf a2), (3, false, va_rf a3), (4, false, .int a4), (5, false, .int a5), (6, false, .int a6)]) C dX10_date_143 (by decide) rfl ?_
      refine v_iconst (pc := 145) (v := (1 : Int32)) C dX10_date_145 rfl ?_
      refine v_istore (pc := 146) (lv' := [(8, false, .int (1 : Int32)), (7, false, .int (0 : Int32)), (0, false, va_rf a0), (1, false, .int a1), (2, false, va_rf a2), (3, false, va_rf a3), (4, false, .int a4), (5, false, .int a5), (6, false, .int a6)]) C dX10_date_146 (by decide) rfl ?_
      refine v_iconst (pc := 148) (v := (0 : Int32)) C dX10_date_148 rfl ?_
      refine v_istore (pc := 149) (lv' := [(9, false, .int (0 : Int32)), (8, false, .int (1 : Int32)), (7, false, .int (0 : Int32)), (0, false, va_rf a0), (1, false, .int a1), (2, false, va_rf a2), (3, false, va_rf a3), (4, false, .int a4), (5, false, .int a5), (6, false, .int a6)]) C dX10_date_149 (by decide) rfl ?_
      exact V.sub [3, 4, 5, 6, 7, 8, 9, 2, 1, 0] rfl (vX10_date_p151 X ih _ _ _ _ _ _ _ _ _ _ _ _ _ hf)
def fX10_date_p124 (D : aD) (h : aH) (a0 : Option Nat) (a1 : Int32) (a2 : Option Nat) (a3 : Option Nat) : Option (aH) :=
  fX10_date_p134 D FU h a0 a1 a2 a3 (-1 : Int32) (2147483647 : Int32) (0 : Int32)
theorem vX10_date_p124 {h : aH} {a0 : Option Nat} {a1 : Int32} {a2 : Option Nat} {a3 : Option Nat} {g : aH} (X : aX p l R s m meth c D n0 s0 yX10_date cX10_date 5 110 10 (none) h0) (hf : fX10_date_p124 D h a0 a1 a2 a3 = some g) : V p l e R s m args below meth c D n0 s0 (aEnd D below args s h0 (.inr none, g)) h 124 [(0, false, va_rf a0), (1, false, .int a1), (2, false, va_rf a2), (3, false, va_rf a3)] [] := by
  have C := X.1
  unfold fX10_date_p124 at hf
  refine v_iconst (pc := 124) (v := (-1 : Int32)) C dX10_date_124 rfl ?_
  refine v_istore (pc := 125) (lv' := [(4, false, .int (-1 : Int32)), (0, false, va_rf a0), (1, false, .int a1), (2, false, va_rf a2), (3, false, va_rf a3)]) C dX10_date_125 (by decide) rfl ?_
  refine v_ldc (pc := 127) (v := (2147483647 : Int32)) C q2702 dX10_date_127 ?_
  refine v_istore (pc := 129) (lv' := [(5, false, .int (2147483647 : Int32)), (4, false, .int (-1 : Int32)), (0, false, va_rf a0), (1, false, .int a1), (2, false, va_rf a2), (3, false, va_rf a3)]) C dX10_date_129 (by decide) rfl ?_
  refine v_iconst (pc := 131) (v := (0 : Int32)) C dX10_date_131 rfl ?_
  refine v_istore (pc := 132) (lv' := [(6, false, .int (0 : Int32)), (5, false, .int (2147483647 : Int32)), (4, false, .int (-1 : Int32)), (0, false, va_rf a0), (1, false, .int a1), (2, false, va_rf a2), (3, false, va_rf a3)]) C dX10_date_132 (by decide) rfl ?_
  exact V.sub [3, 4, 5, 6, 2, 1, 0] rfl (vX10_date_p134 X _ _ _ _ _ _ _ _ _ _ hf)
def fX10_date_p71 (D : aD) : Nat → aH → (Option Nat) → Int32 → (Option Nat) → (Option Nat) → Int32 → Option (aH)
  | 0, _, _, _, _, _, _ => none
  | n + 1, h, a0, a1, a2, a3, a4 =>
  if a1 ≤ a4 then
  (fX10_date_p124 D h a0 a1 a2 a3)
  else
  (fX10_date_p80 D (fX10_date_p71 D n) FU h a0 a1 a2 a3 a4 (0 : Int32))
theorem vX10_date_p71 (X : aX p l R s m meth c D n0 s0 yX10_date cX10_date 5 110 10 (none) h0) : ∀ (n : Nat) (h : aH) (a0 : Option Nat) (a1 : Int32) (a2 : Option Nat) (a3 : Option Nat) (a4 : Int32) (g : aH), fX10_date_p71 D n h a0 a1 a2 a3 a4 = some g → V p l e R s m args below meth c D n0 s0 (aEnd D below args s h0 (.inr none, g)) h 71 [(0, false, va_rf a0), (1, false, .int a1), (2, false, va_rf a2), (3, false, va_rf a3), (4, false, .int a4)] [] := by
  have C := X.1
  intro n
  induction n with
  | zero =>
    intro _ _ _ _ _ _ _ hf
    rw [fX10_date_p71] at hf
    cases hf
  | succ n ih =>
    intro h a0 a1 a2 a3 a4 g hf
    rw [fX10_date_p71] at hf
    refine v_iload (pc := 71) (j := 4) C dX10_date_71 rfl ?_
    refine v_iload_n (pc := 73) (j := 1) C dX10_date_73 rfl rfl ?_
    refine v_icmp_ge (pc := 74) (tgt := 124) C dX10_date_74 rfl (fun hc => ?_) (fun hc => ?_)
    · rw [if_pos hc] at hf
      exact V.sub [0, 1, 2, 3] rfl (vX10_date_p124 X hf)
    · rw [if_neg hc] at hf
      refine v_iconst (pc := 77) (v := (0 : Int32)) C dX10_date_77 rfl ?_
      refine v_istore (pc := 78) (lv' := [(5, false, .int (0 : Int32)), (0, false, va_rf a0), (1, false, .int a1), (2, false, va_rf a2), (3, false, va_rf a3), (4, false, .int a4)]) C dX10_date_78 (by decide) rfl ?_
      exact V.sub [1, 2, 3, 4, 5, 0] rfl (vX10_date_p80 X ih _ _ _ _ _ _ _ _ _ hf)
def fX10_date_p64 (D : aD) (h : aH) (a0 : Option Nat) (a1 : Int32) (a2 : Option Nat) : Option (aH) :=
  (aMkA D h 100 a1 (.int 0)).bind fun h1 =>
  fX10_date_p71 D FU h1 a0 a1 a2 (some h.1) (0 : Int32)
theorem vX10_date_p64 {h : aH} {a0 : Option Nat} {a1 : Int32} {a2 : Option Nat} {g : aH} (X : aX p l R s m meth c D n0 s0 yX10_date cX10_date 5 110 10 (none) h0) (hf : fX10_date_p64 D h a0 a1 a2 = some g) : V p l e R s m args below meth c D n0 s0 (aEnd D below args s h0 (.inr none, g)) h 64 [(0, false, va_rf a0), (1, false, .int a1), (2, false, va_rf a2)] [] := by
  have C := X.1
  unfold fX10_date_p64 at hf
  refine v_iload_n (pc := 64) (j := 1) C dX10_date_64 rfl rfl ?_
  obtain ⟨h1, eh1, hf⟩ := oB hf
  refine v_newarray (pc := 65) (t := 100) (v := .int 0) C q169 rfl rfl (by decide) (by decide) rfl eh1 dX10_date_65 ?_
  refine v_astore_n (pc := 67) (lv' := [(3, false, va_rf (some h.1)), (0, false, va_rf a0), (1, false, .int a1), (2, false, va_rf a2)]) C dX10_date_67 rfl (by decide) rfl ?_
  refine v_iconst (pc := 68) (v := (0 : Int32)) C dX10_date_68 rfl ?_
  refine v_istore (pc := 69) (lv' := [(4, false, .int (0 : Int32)), (3, false, va_rf (some h.1)), (0, false, va_rf a0), (1, false, .int a1), (2, false, va_rf a2)]) C dX10_date_69 (by decide) rfl ?_
  exact V.sub [2, 3, 4, 1, 0] rfl (vX10_date_p71 X _ _ _ _ _ _ _ _ hf)
def fX10_date_p9 (D : aD) : Nat → aH → (Option Nat) → Int32 → (Option Nat) → Int32 → Option (aH)
  | 0, _, _, _, _, _ => none
  | n + 1, h, a0, a1, a2, a3 =>
  (gR h 9 7 a0).bind fun x1 =>
  (gR h 1 13 x1).bind fun x2 =>
  (aIs h 15 x2).bind fun _ =>
  (fJ2_size D h x2).bind fun x4 =>
  if x4 ≤ a3 then
  (fX10_date_p64 D h a0 a1 a2)
  else
  ((gR h 9 4 a0).bind fun x6 =>
  (eZ h x6 a3).bind fun x7 =>
  if x7 = 0 then
  (fX10_date_p58 D (fX10_date_p9 D n) h a0 a1 a2 a3)
  else
  ((gR h 9 7 a0).bind fun x8 =>
  (gR h 1 13 x8).bind fun x9 =>
  (aIs h 15 x9).bind fun _ =>
  (fJ2_get D h x9 a3).bind fun x11 =>
  (aCast h [100] x11).bind fun _ =>
  (eI h x11 (0 : Int32)).bind fun x14 =>
  if x14 = 0 then
  (fX10_date_p58 D (fX10_date_p9 D n) h a0 a1 a2 a3)
  else
  ((sF D h 100 a2 a1 (.int a3)).bind fun h15 =>
  fX10_date_p58 D (fX10_date_p9 D n) h15 a0 (a1 + 1) a2 a3)))
theorem vX10_date_p9 (X : aX p l R s m meth c D n0 s0 yX10_date cX10_date 5 110 10 (none) h0) : ∀ (n : Nat) (h : aH) (a0 : Option Nat) (a1 : Int32) (a2 : Option Nat) (a3 : Int32) (g : aH), fX10_date_p9 D n h a0 a1 a2 a3 = some g → V p l e R s m args below meth c D n0 s0 (aEnd D below args s h0 (.inr none, g)) h 9 [(0, false, va_rf a0), (1, false, .int a1), (2, false, va_rf a2), (3, false, .int a3)] [] := by
  have C := X.1
  intro n
  induction n with
  | zero =>
    intro _ _ _ _ _ _ hf
    rw [fX10_date_p9] at hf
    cases hf
  | succ n ih =>
    intro h a0 a1 a2 a3 g hf
    rw [fX10_date_p9] at hf
    refine v_iload_n (pc := 9) (j := 3) C dX10_date_9 rfl rfl ?_
    refine v_aload_n (pc := 10) (j := 0) C dX10_date_10 rfl rfl ?_
    obtain ⟨x1, ex1, hf⟩ := oB hf
    refine v_getF (pc := 11) C lk_X10_3 (gR_eq ex1) dX10_date_11 ?_
    obtain ⟨x2, ex2, hf⟩ := oB hf
    refine v_getF (pc := 14) C lk_X10_21 (gR_eq ex2) dX10_date_14 ?_
    obtain ⟨b3, eb3, hf⟩ := oB hf
    obtain ⟨rb3, _, kb3⟩ := aIs_eq eb3
    obtain ⟨x4, ex4, hf⟩ := oB hf
    refine v_call (pc := 17) (d_V (pc := 17) C (As := []) (rest := [.int a3]) rb3 kb3 nt_15 q2689 yi_J2_size_java_util_ArrayList yk_J2_size rfl (by decide) (by decide) (Nat.le_trans (aw_i aw_0) (by decide)) rfl (mJ2_size C.st ex4) dX10_date_17) ?_
    refine v_icmp_ge (pc := 20) (tgt := 64) C dX10_date_20 rfl (fun hc => ?_) (fun hc => ?_)
    · rw [if_pos hc] at hf
      exact V.sub [0, 1, 2] rfl (vX10_date_p64 X hf)
    · rw [if_neg hc] at hf
      refine v_aload_n (pc := 23) (j := 0) C dX10_date_23 rfl rfl ?_
      obtain ⟨x6, ex6, hf⟩ := oB hf
      refine v_getF (pc := 24) C lk_X10_31 (gR_eq ex6) dX10_date_24 ?_
      refine v_iload_n (pc := 27) (j := 3) C dX10_date_27 rfl rfl ?_
      obtain ⟨x7, ex7, hf⟩ := oB hf
      refine v_baload (pc := 28) C ex7 dX10_date_28 ?_
      refine v_if_eq (pc := 29) (tgt := 58) C dX10_date_29 rfl (fun hc => ?_) (fun hc => ?_)
      · rw [if_pos hc] at hf
        exact V.sub [0, 1, 2, 3] rfl (vX10_date_p58 X ih hf)
      · rw [if_neg hc] at hf
        refine v_aload_n (pc := 32) (j := 0) C dX10_date_32 rfl rfl ?_
        obtain ⟨x8, ex8, hf⟩ := oB hf
        refine v_getF (pc := 33) C lk_X10_3 (gR_eq ex8) dX10_date_33 ?_
        obtain ⟨x9, ex9, hf⟩ := oB hf
        refine v_getF (pc := 36) C lk_X10_21 (gR_eq ex9) dX10_date_36 ?_
        refine v_iload_n (pc := 39) (j := 3) C dX10_date_39 rfl rfl ?_
        obtain ⟨b10, eb10, hf⟩ := oB hf
        obtain ⟨rb10, _, kb10⟩ := aIs_eq eb10
        obtain ⟨x11, ex11, hf⟩ := oB hf
        refine v_call (pc := 40) (d_V (pc := 40) C (As := [.int a3]) (rest := []) rb10 kb10 nt_15 q2692 yi_J2_get_java_util_ArrayList yk_J2_get rfl (by decide) (by decide) (Nat.le_trans aw_0 (by decide)) rfl (mJ2_get C.st ex11) dX10_date_40) ?_
        obtain ⟨_, e13, hf⟩ := oB hf
        refine v_cast (pc := 43) C q2688 ct__I e13 dX10_date_43 ?_
        refine v_iconst (pc := 46) (v := (0 : Int32)) C dX10_date_46 rfl ?_
        obtain ⟨x14, ex14, hf⟩ := oB hf
        refine v_iaload (pc := 47) C ex14 dX10_date_47 ?_
        refine v_if_eq (pc := 48) (tgt := 58) C dX10_date_48 rfl (fun hc => ?_) (fun hc => ?_)
        · rw [if_pos hc] at hf
          exact V.sub [0, 1, 2, 3] rfl (vX10_date_p58 X ih hf)
        · rw [if_neg hc] at hf
          refine v_aload_n (pc := 51) (j := 2) C dX10_date_51 rfl rfl ?_
          refine v_iload_n (pc := 52) (j := 1) C dX10_date_52 rfl rfl ?_
          refine v_iinc (pc := 53) (j := 1) (v := (a1 + 1)) (lv' := [(1, false, .int (a1 + 1)), (0, false, va_rf a0), (2, false, va_rf a2), (3, false, .int a3)]) C dX10_date_53 rfl rfl (by decide) rfl ?_
          refine v_iload_n (pc := 56) (j := 3) C dX10_date_56 rfl rfl ?_
          obtain ⟨h15, eh15, hf⟩ := oB hf
          refine v_iastore (pc := 57) C eh15 dX10_date_57 ?_
          exact V.sub [1, 0, 2, 3] rfl (vX10_date_p58 X ih hf)
def fX10_date (D : aD) (h : aH) (a0 : Option Nat) : Option (aH) :=
  (aMkA D h 100 (12 : Int32) (.int 0)).bind fun h1 =>
  fX10_date_p9 D FU h1 a0 (0 : Int32) (some h.1) (0 : Int32)
theorem vX10_date {h : aH} {a0 : Option Nat} {g : aH} (X : aX p l R s m meth c D n0 s0 yX10_date cX10_date 5 110 10 (none) h0) (hf : fX10_date D h a0 = some g) : V p l e R s m args below meth c D n0 s0 (aEnd D below args s h0 (.inr none, g)) h 0 [(0, false, va_rf a0)] [] := by
  have C := X.1
  unfold fX10_date at hf
  refine v_iconst (pc := 0) (v := (0 : Int32)) C dX10_date_0 rfl ?_
  refine v_istore_n (pc := 1) (lv' := [(1, false, .int (0 : Int32)), (0, false, va_rf a0)]) C dX10_date_1 rfl (by decide) rfl ?_
  refine v_bipush (pc := 2) (v := (12 : Int32)) C dX10_date_2 rfl ?_
  obtain ⟨h1, eh1, hf⟩ := oB hf
  refine v_newarray (pc := 4) (t := 100) (v := .int 0) C q169 rfl rfl (by decide) (by decide) rfl eh1 dX10_date_4 ?_
  refine v_astore_n (pc := 6) (lv' := [(2, false, va_rf (some h.1)), (1, false, .int (0 : Int32)), (0, false, va_rf a0)]) C dX10_date_6 rfl (by decide) rfl ?_
  refine v_iconst (pc := 7) (v := (0 : Int32)) C dX10_date_7 rfl ?_
  refine v_istore_n (pc := 8) (lv' := [(3, false, .int (0 : Int32)), (2, false, va_rf (some h.1)), (1, false, .int (0 : Int32)), (0, false, va_rf a0)]) C dX10_date_8 rfl (by decide) rfl ?_
  exact V.sub [3, 2, 1, 0] rfl (vX10_date_p9 X _ _ _ _ _ _ _ hf)
theorem mX10_date {l : Launch} {D : aD} {h : aH} {a0 : Option Nat} {g : aH} (hst : l.stackTraces = false) (hf : fX10_date D h a0 = some g) : aM l D yX10_date cX10_date 10 (none) 5 110 [va_rf a0] h (.inr none, g) :=
  aM.ofX [(false, va_rf a0)] rfl (ap_r ap_0) (by decide +kernel) hst (al_of (aw_r aw_0) (by decide)) fun p e s m args below meth c X => V.sub (lv' := [(0, false, va_rf a0)]) [0] rfl (vX10_date X hf)
def fX10_init_p103 (D : aD) (K61 : aH → (Option Nat) → (Option Nat) → Int32 → Int32 → (Option Nat) → Int32 → Option (aH)) (h : aH) (a0 : Option Nat) (a1 : Option Nat) (a2 : Int32) (a3 : Int32) (a4 : Option Nat) (a5 : Int32) : Option (aH) :=
  K61 h a0 a1 a2 a3 a4 (a5 + 1)
theorem vX10_init_p103 {h : aH} {K61 : aH → (Option Nat) → (Option Nat) → Int32 → Int32 → (Option Nat) → Int32 → Option (aH)} {a0 : Option Nat} {a1 : Option Nat} {a2 : Int32} {a3 : Int32} {a4 : Option Nat} {a5 : Int32} {g : aH} (X : aX p l R s m meth c D n0 s0 yX10_init cX10_init 7 164 7 (none) h0) (k61 : ∀ (h : aH) (a0 : Option Nat) (a1 : Option Nat) (a2 : Int32) (a3 : Int32) (a4 : Option Nat) (a5 : Int32) (g : aH), K61 h a0 a1 a2 a3 a4 a5 = some g → V p l e R s m args below meth c D n0 s0 (aEnd D below args s h0 (.inr none, g)) h 61 [(0, false, va_rf a0), (1, false, va_rf a1), (2, false, .int a2), (3, false, .int a3), (4, false, va_rf a4), (5, false, .int a5)] []) (hf : fX10_init_p103 D K61 h a0 a1 a2 a3 a4 a5 = some g) : V p l e R s m args below meth c D n0 s0 (aEnd D below args s h0 (.inr none, g)) h 103 [(0, false, va_rf a0), (1, false, va_rf a1), (2, false, .int a2), (3, false, .int a3), (4, false, va_rf a4), (5, false, .int a5)] [] := by
  have C := X.1
  unfold fX10_init_p103 at hf
  refine v_iinc (pc := 103) (j := 5) (v := (a5 + 1)) (lv' := [(5, false, .int (a5 + 1)), (0, false, va_rf a0), (1, false, va_rf a1), (2, false, .int a2), (3, false, .int a3), (4, false, va_rf a4)]) C dX10_init_103 rfl rfl (by decide) rfl ?_
  refine v_goto (pc := 106) (tgt := 61) C dX10_init_106 rfl ?_
  exact V.sub [1, 2, 3, 4, 5, 0] rfl (k61 _ _ _ _ _ _ _ _ hf)
def fX10_init_p283 (D : aD) (K146 : aH → (Option Nat) → (Option Nat) → Int32 → Int32 → Option (aH)) (h : aH) (a0 : Option Nat) (a1 : Option Nat) (a3 : Int32) (a5 : Int32) : Option (aH) :=
  K146 h a0 a1 a3 (a5 + 1)
theorem vX10_init_p283 {h : aH} {K146 : aH → (Option Nat) → (Option Nat) → Int32 → Int32 → Option (aH)} {a0 : Option Nat} {a1 : Option Nat} {a3 : Int32} {a5 : Int32} {g : aH} (X : aX p l R s m meth c D n0 s0 yX10_init cX10_init 7 164 7 (none) h0) (k146 : ∀ (h : aH) (a0 : Option Nat) (a1 : Option Nat) (a3 : Int32) (a5 : Int32) (g : aH), K146 h a0 a1 a3 a5 = some g → V p l e R s m args below meth c D n0 s0 (aEnd D below args s h0 (.inr none, g)) h 146 [(0, false, va_rf a0), (1, false, va_rf a1), (3, false, .int a3), (5, false, .int a5)] []) (hf : fX10_init_p283 D K146 h a0 a1 a3 a5 = some g) : V p l e R s m args below meth c D n0 s0 (aEnd D below args s h0 (.inr none, g)) h 283 [(0, false, va_rf a0), (1, false, va_rf a1), (3, false, .int a3), (5, false, .int a5)] [] := by
  have C := X.1
  unfold fX10_init_p283 at hf
  refine v_iinc (pc := 283) (j := 3) (v := (a5 + 1)) (lv' := [(5, false, .int (a5 + 1)), (0, false, va_rf a0), (1, false, va_rf a1), (3, false, .int a3)]) C dX10_init_283 rfl rfl (by decide) rfl ?_
  refine v_goto (pc := 286) (tgt := 146) C dX10_init_286 rfl ?_
  exact V.sub [1, 2, 3, 0] rfl (k146 _ _ _ _ _ _ hf)
def fX10_init_p219 (D : aD) (K146 : aH → (Option Nat) → (Option Nat) → Int32 → Int32 → Option (aH)) (h : aH) (a0 : Option Nat) (a1 : Option Nat) (a3 : Int32) (a5 : Int32) (a6 : Option Nat) (t0 : Option Nat) (t1 : Int32) (t2 : Int32) : Option (aH) :=
  (ckZ t2).bind fun _ =>
  (sF D h 102 t0 t1 (.int t2)).bind fun h1 =>
  (gR h1 9 4 a0).bind fun x2 =>
  (eZ h1 x2 a5).bind fun x3 =>
  if x3 = 0 then
  (fX10_init_p283 D K146 h1 a0 a1 a3 a5)
  else
  ((eI h1 a6 (0 : Int32)).bind fun x4 =>
  if x4 = 0 then
  ((gR h1 9 2 a0).bind fun x5 =>
  (gI h1 9 3 a0).bind fun x6 =>
  (pF D h1 9 3 a0 (.int (x6 + (1 : Int32)))).bind fun h7 =>
  (aMkA D h7 100 (3 : Int32) (.int 0)).bind fun h8 =>
  (sF D h8 100 (some h7.1) (0 : Int32) (.int a5)).bind fun h9 =>
  (eI h9 a6 (1 : Int32)).bind fun x10 =>
  (aIs h9 9 a0).bind fun _ =>
  (fX10_place D h9 a0 x10).bind fun x12 =>
  (sF D h9 100 (some h7.1) (1 : Int32) (.int x12)).bind fun h14 =>
  (eI h14 a6 (2 : Int32)).bind fun x15 =>
  (aIs h14 9 a0).bind fun _ =>
  (fX10_place D h14 a0 x15).bind fun x17 =>
  (sF D h14 100 (some h7.1) (2 : Int32) (.int x17)).bind fun h19 =>
  (sR D h19 x5 x6 (some h7.1)).bind fun h20 =>
  fX10_init_p283 D K146 h20 a0 a1 a3 a5)
  else
  (fX10_init_p283 D K146 h1 a0 a1 a3 a5))
theorem vX10_init_p219 {h : aH} {K146 : aH → (Option Nat) → (Option Nat) → Int32 → Int32 → Option (aH)} {a0 : Option Nat} {a1 : Option Nat} {a3 : Int32} {a5 : Int32} {a6 : Option Nat} {t0 : Option Nat} {t1 : Int32} {t2 : Int32} {g : aH} (X : aX p l R s m meth c D n0 s0 yX10_init cX10_init 7 164 7 (none) h0) (k146 : ∀ (h : aH) (a0 : Option Nat) (a1 : Option Nat) (a3 : Int32) (a5 : Int32) (g : aH), K146 h a0 a1 a3 a5 = some g → V p l e R s m args below meth c D n0 s0 (aEnd D below args s h0 (.inr none, g)) h 146 [(0, false, va_rf a0), (1, false, va_rf a1), (3, false, .int a3), (5, false, .int a5)] []) (hf : fX10_init_p219 D K146 h a0 a1 a3 a5 a6 t0 t1 t2 = some g) : V p l e R s m args below meth c D n0 s0 (aEnd D below args s h0 (.inr none, g)) h 219 [(0, false, va_rf a0), (1, false, va_rf a1), (3, false, .int a3), (5, false, .int a5), (6, false, va_rf a6)] [.int t2, .int t1, va_rf t0] := by
  have C := X.1
  unfold fX10_init_p219 at hf
  obtain ⟨_, zh1, hf⟩ := oB hf
  obtain ⟨h1, eh1, hf⟩ := oB hf
  refine v_bastore (pc := 219) C (ckZ_eq zh1) eh1 dX10_init_219 ?_
  refine v_aload_n (pc := 220) (j := 0) C dX10_init_220 rfl rfl ?_
  obtain ⟨x2, ex2, hf⟩ := oB hf
  refine v_getF (pc := 221) C lk_X10_31 (gR_eq ex2) dX10_init_221 ?_
  refine v_iload (pc := 224) (j := 3) C dX10_init_224 rfl ?_
  obtain ⟨x3, ex3, hf⟩ := oB hf
  refine v_baload (pc := 226) C ex3 dX10_init_226 ?_
  refine v_if_eq (pc := 227) (tgt := 283) C dX10_init_227 rfl (fun hc => ?_) (fun hc => ?_)
  · rw [if_pos hc] at hf
    exact V.sub [0, 1, 2, 3] rfl (vX10_init_p283 X k146 hf)
  · rw [if_neg hc] at hf
    refine v_aload (pc := 230) (j := 4) C dX10_init_230 rfl ?_
    refine v_iconst (pc := 232) (v := (0 : Int32)) C dX10_init_232 rfl ?_
    obtain ⟨x4, ex4, hf⟩ := oB hf
    refine v_iaload (pc := 233) C ex4 dX10_init_233 ?_
    refine v_if_ne (pc := 234) (tgt := 283) C dX10_init_234 rfl (fun hc => ?_) (fun hc => ?_)
    · rw [if_neg hc] at hf
      exact V.sub [0, 1, 2, 3] rfl (vX10_init_p283 X k146 hf)
    · rw [if_pos (Decidable.of_not_not hc)] at hf
      refine v_aload_n (pc := 237) (j := 0) C dX10_init_237 rfl rfl ?_
      obtain ⟨x5, ex5, hf⟩ := oB hf
      refine v_getF (pc := 238) C lk_X10_17 (gR_eq ex5) dX10_init_238 ?_
      refine v_aload_n (pc := 241) (j := 0) C dX10_init_241 rfl rfl ?_
      refine v_dup (pc := 242) C dX10_init_242 (va_rfc _) ?_
      obtain ⟨x6, ex6, hf⟩ := oB hf
      refine v_getF (pc := 243) C lk_X10_58 (gI_eq ex6) dX10_init_243 ?_
      refine v_dup_x1 (pc := 246) C dX10_init_246 rfl (va_rfc _) ?_
      refine v_iconst (pc := 247) (v := (1 : Int32)) C dX10_init_247 rfl ?_
      refine v_iadd (pc := 248) C dX10_init_248 ?_
      obtain ⟨h7, eh7, hf⟩ := oB hf
      refine v_putF (pc := 249) C lk_X10_58 tyX10 tyX10_ok nmX10 (tyX10_ok 3 (by decide)) rfl rfl eh7 dX10_init_249 ?_
      refine v_iconst (pc := 252) (v := (3 : Int32)) C dX10_init_252 rfl ?_
      obtain ⟨h8, eh8, hf⟩ := oB hf
      refine v_newarray (pc := 253) (t := 100) (v := .int 0) C q169 rfl rfl (by decide) (by decide) rfl eh8 dX10_init_253 ?_
      refine v_dup (pc := 255) C dX10_init_255 (va_rfc _) ?_
      refine v_iconst (pc := 256) (v := (0 : Int32)) C dX10_init_256 rfl ?_
      refine v_iload (pc := 257) (j := 3) C dX10_init_257 rfl ?_
      obtain ⟨h9, eh9, hf⟩ := oB hf
      refine v_iastore (pc := 259) C eh9 dX10_init_259 ?_
      refine v_dup (pc := 260) C dX10_init_260 (va_rfc _) ?_
      refine v_iconst (pc := 261) (v := (1 : Int32)) C dX10_init_261 rfl ?_
      refine v_aload_n (pc := 262) (j := 0) C dX10_init_262 rfl rfl ?_
      refine v_aload (pc := 263) (j := 4) C dX10_init_263 rfl ?_
      refine v_iconst (pc := 265) (v := (1 : Int32)) C dX10_init_265 rfl ?_
      obtain ⟨x10, ex10, hf⟩ := oB hf
      refine v_iaload (pc := 266) C ex10 dX10_init_266 ?_
      obtain ⟨b11, eb11, hf⟩ := oB hf
      obtain ⟨rb11, _, kb11⟩ := aIs_eq eb11
      obtain ⟨x12, ex12, hf⟩ := oB hf
      refine v_call (pc := 267) (d_V (pc := 267) C (As := [.int x10]) (rest := [.int (1 : Int32), va_rf (some h7.1), va_rf (some h7.1), .int x6, va_rf x5]) rb11 kb11 nt_9 q2693 yi_X10_place_FigureSurveyModel_Found yk_X10_place rfl (by decide) (by decide) (Nat.le_trans (aw_i (aw_r (aw_r (aw_i (aw_r aw_0))))) (by decide)) rfl (mX10_place C.st ex12) dX10_init_267) ?_
      obtain ⟨h14, eh14, hf⟩ := oB hf
      refine v_iastore (pc := 270) C eh14 dX10_init_270 ?_
      refine v_dup (pc := 271) C dX10_init_271 (va_rfc _) ?_
      refine v_iconst (pc := 272) (v := (2 : Int32)) C dX10_init_272 rfl ?_
      refine v_aload_n (pc := 273) (j := 0) C dX10_init_273 rfl rfl ?_
      refine v_aload (pc := 274) (j := 4) C dX10_init_274 rfl ?_
      refine v_iconst (pc := 276) (v := (2 : Int32)) C dX10_init_276 rfl ?_
      obtain ⟨x15, ex15, hf⟩ := oB hf
      refine v_iaload (pc := 277) C ex15 dX10_init_277 ?_
      obtain ⟨b16, eb16, hf⟩ := oB hf
      obtain ⟨rb16, _, kb16⟩ := aIs_eq eb16
      obtain ⟨x17, ex17, hf⟩ := oB hf
      refine v_call (pc := 278) (d_V (pc := 278) C (As := [.int x15]) (rest := [.int (2 : Int32), va_rf (some h7.1), va_rf (some h7.1), .int x6, va_rf x5]) rb16 kb16 nt_9 q2693 yi_X10_place_FigureSurveyModel_Found yk_X10_place rfl (by decide) (by decide) (Nat.le_trans (aw_i (aw_r (aw_r (aw_i (aw_r aw_0))))) (by decide)) rfl (mX10_place C.st ex17) dX10_init_278) ?_
      obtain ⟨h19, eh19, hf⟩ := oB hf
      refine v_iastore (pc := 281) C eh19 dX10_init_281 ?_
      obtain ⟨h20, eh20, hf⟩ := oB hf
      refine v_aastore (pc := 282) C eh20 dX10_init_282 ?_
      exact V.sub [0, 1, 2, 3] rfl (vX10_init_p283 X k146 hf)
def fX10_init_p289 (D : aD) (h : aH) (a0 : Option Nat) (a3 : Int32) : Option (aH) :=
  (aMk2 D h 105 102 a3 a3 (.int 0)).bind fun h1 =>
  (pF D h1 9 6 a0 (va_rf (some h.1))).bind fun h2 =>
  (aIs h2 9 a0).bind fun _ =>
  (fX10_arrange D h2 a0).bind fun h5 =>
  (aIs h5 9 a0).bind fun _ =>
  (fX10_climb D h5 a0).bind fun h8 =>
  (aIs h8 9 a0).bind fun _ =>
  (fX10_date D h8 a0).bind fun h11 =>
  some h11
theorem vX10_init_p289 {h : aH} {a0 : Option Nat} {a3 : Int32} {g : aH} (X : aX p l R s m meth c D n0 s0 yX10_init cX10_init 7 164 7 (none) h0) (hf : fX10_init_p289 D h a0 a3 = some g) : V p l e R s m args below meth c D n0 s0 (aEnd D below args s h0 (.inr none, g)) h 289 [(0, false, va_rf a0), (3, false, .int a3)] [] := by
  have C := X.1
  unfold fX10_init_p289 at hf
  refine v_aload_n (pc := 289) (j := 0) C dX10_init_289 rfl rfl ?_
  refine v_iload_n (pc := 290) (j := 1) C dX10_init_290 rfl rfl ?_
  refine v_iload_n (pc := 291) (j := 1) C dX10_init_291 rfl rfl ?_
  obtain ⟨h1, eh1, hf⟩ := oB hf
  refine v_multi (pc := 292) (t := 105) (t' := 102) (t9 := .boolean) (v := .int 0) C (by decide +kernel) (by decide +kernel) rfl (by decide) rfl (by decide) q2697 q1258 q1321 (by decide) rfl rfl rfl eh1 dX10_init_292 ?_
  obtain ⟨h2, eh2, hf⟩ := oB hf
  refine v_putC (pc := 296) C X.2.2.2.2.2.1 lk_X10_64 rfl q2734 tyX10 tyX10_ok nmX10 (tyX10_ok 6 (by decide)) rfl ft_a eh2 dX10_init_296 ?_
  refine v_aload_n (pc := 299) (j := 0) C dX10_init_299 rfl rfl ?_
  obtain ⟨b3, eb3, hf⟩ := oB hf
  obtain ⟨rb3, _, kb3⟩ := aIs_eq eb3
  obtain ⟨h5, ex4, hf⟩ := oB hf
  refine v_callU (pc := 300) (d_V (pc := 300) C (As := []) (rest := []) rb3 kb3 nt_9 q2698 yi_X10_arrange_FigureSurveyModel_Found yk_X10_arrange rfl (by decide) (by decide) (Nat.le_trans aw_0 (by decide)) rfl (mX10_arrange C.st ex4) dX10_init_300) ?_
  refine v_aload_n (pc := 303) (j := 0) C dX10_init_303 rfl rfl ?_
  obtain ⟨b6, eb6, hf⟩ := oB hf
  obtain ⟨rb6, _, kb6⟩ := aIs_eq eb6
  obtain ⟨h8, ex7, hf⟩ := oB hf
  refine v_callU (pc := 304) (d_V (pc := 304) C (As := []) (rest := []) rb6 kb6 nt_9 q2708 yi_X10_climb_FigureSurveyModel_Found yk_X10_climb rfl (by decide) (by decide) (Nat.le_trans aw_0 (by decide)) rfl (mX10_climb C.st ex7) dX10_init_304) ?_
  refine v_aload_n (pc := 307) (j := 0) C dX10_init_307 rfl rfl ?_
  obtain ⟨b9, eb9, hf⟩ := oB hf
  obtain ⟨rb9, _, kb9⟩ := aIs_eq eb9
  obtain ⟨h11, ex10, hf⟩ := oB hf
  refine v_callU (pc := 308) (d_V (pc := 308) C (As := []) (rest := []) rb9 kb9 nt_9 q2712 yi_X10_date_FigureSurveyModel_Found yk_X10_date rfl (by decide) (by decide) (Nat.le_trans aw_0 (by decide)) rfl (mX10_date C.st ex10) dX10_init_308) ?_
  cases hf
  exact v_return (pc := 311) C X.2.1 X.2.2.1 X.2.2.2.1 rfl dX10_init_311
def fX10_init_p146 (D : aD) : Nat → aH → (Option Nat) → (Option Nat) → Int32 → Int32 → Option (aH)
  | 0, _, _, _, _, _ => none
  | n + 1, h, a0, a1, a3, a5 =>
  (gR h 1 13 a1).bind fun x1 =>
  (aIs h 15 x1).bind fun _ =>
  (fJ2_size D h x1).bind fun x3 =>
  if x3 ≤ a5 then
  (fX10_init_p289 D h a0 a3)
  else
  ((gR h 1 13 a1).bind fun x5 =>
  (aIs h 15 x5).bind fun _ =>
  (fJ2_get D h x5 a5).bind fun x7 =>
  (aCast h [100] x7).bind fun _ =>
  (gR h 9 4 a0).bind fun x10 =>
  (eI h x7 (4 : Int32)).bind fun x11 =>
  if x11 = 0 then
  ((eI h x7 (1 : Int32)).bind fun x12 =>
  (aIs h 9 a0).bind fun _ =>
  (fX10_place D h a0 x12).bind fun x14 =>
  if x14 < 0 then
  (fX10_init_p219 D (fX10_init_p146 D n) h a0 a1 a3 a5 x7 x10 a5 (0 : Int32))
  else
  ((eI h x7 (0 : Int32)).bind fun x16 =>
  if x16 = 0 then
  ((eI h x7 (2 : Int32)).bind fun x17 =>
  (aIs h 9 a0).bind fun _ =>
  (fX10_place D h a0 x17).bind fun x19 =>
  fX10_init_p219 D (fX10_init_p146 D n) h a0 a1 a3 a5 x7 x10 a5 (if x19 < 0 then (0 : Int32) else (1 : Int32)))
  else
  (fX10_init_p219 D (fX10_init_p146 D n) h a0 a1 a3 a5 x7 x10 a5 (1 : Int32))))
  else
  (fX10_init_p219 D (fX10_init_p146 D n) h a0 a1 a3 a5 x7 x10 a5 (0 : Int32)))
theorem vX10_init_p146 (X : aX p l R s m meth c D n0 s0 yX10_init cX10_init 7 164 7 (none) h0) : ∀ (n : Nat) (h : aH) (a0 : Option Nat) (a1 : Option Nat) (a3 : Int32) (a5 : Int32) (g : aH), fX10_init_p146 D n h a0 a1 a3 a5 = some g → V p l e R s m args below meth c D n0 s0 (aEnd D below args s h0 (.inr none, g)) h 146 [(0, false, va_rf a0), (1, false, va_rf a1), (3, false, .int a3), (5, false, .int a5)] [] := by
  have C := X.1
  intro n
  induction n with
  | zero =>
    intro _ _ _ _ _ _ hf
    rw [fX10_init_p146] at hf
    cases hf
  | succ n ih =>
    intro h a0 a1 a3 a5 g hf
    rw [fX10_init_p146] at hf
    refine v_iload (pc := 146) (j := 3) C dX10_init_146 rfl ?_
    refine v_aload_n (pc := 148) (j := 1) C dX10_init_148 rfl rfl ?_
    obtain ⟨x1, ex1, hf⟩ := oB hf
    refine v_getF (pc := 149) C lk_X10_21 (gR_eq ex1) dX10_init_149 ?_
    obtain ⟨b2, eb2, hf⟩ := oB hf
    obtain ⟨rb2, _, kb2⟩ := aIs_eq eb2
    obtain ⟨x3, ex3, hf⟩ := oB hf
    refine v_call (pc := 152) (d_V (pc := 152) C (As := []) (rest := [.int a5]) rb2 kb2 nt_15 q2689 yi_J2_size_java_util_ArrayList yk_J2_size rfl (by decide) (by decide) (Nat.le_trans (aw_i aw_0) (by decide)) rfl (mJ2_size C.st ex3) dX10_init_152) ?_
    refine v_icmp_ge (pc := 155) (tgt := 289) C dX10_init_155 rfl (fun hc => ?_) (fun hc => ?_)
    · rw [if_pos hc] at hf
      exact V.sub [0, 2] rfl (vX10_init_p289 X hf)
    · rw [if_neg hc] at hf
      refine v_aload_n (pc := 158) (j := 1) C dX10_init_158 rfl rfl ?_
      obtain ⟨x5, ex5, hf⟩ := oB hf
      refine v_getF (pc := 159) C lk_X10_21 (gR_eq ex5) dX10_init_159 ?_
      refine v_iload (pc := 162) (j := 3) C dX10_init_162 rfl ?_
      obtain ⟨b6, eb6, hf⟩ := oB hf
      obtain ⟨rb6, _, kb6⟩ := aIs_eq eb6
      obtain ⟨x7, ex7, hf⟩ := oB hf
      refine v_call (pc := 164) (d_V (pc := 164) C (As := [.int a5]) (rest := []) rb6 kb6 nt_15 q2692 yi_J2_get_java_util_ArrayList yk_J2_get rfl (by decide) (by decide) (Nat.le_trans aw_0 (by decide)) rfl (mJ2_get C.st ex7) dX10_init_164) ?_
      obtain ⟨_, e9, hf⟩ := oB hf
      refine v_cast (pc := 167) C q2688 ct__I e9 dX10_init_167 ?_
      refine v_astore (pc := 170) (lv' := [(6, false, va_rf x7), (0, false, va_rf a0), (1, false, va_rf a1), (3, false, .int a3), (5, false, .int a5)]) C dX10_init_170 (by decide) rfl ?_
      refine v_aload_n (pc := 172) (j := 1) C dX10_init_172 rfl rfl ?_
      obtain ⟨x10, ex10, hf⟩ := oB hf
      refine v_getF (pc := 173) C lk_X10_31 (gR_eq ex10) dX10_init_173 ?_
      refine v_iload (pc := 176) (j := 4) C dX10_init_176 rfl ?_
      refine v_aload (pc := 178) (j := 0) C dX10_init_178 rfl ?_
      refine v_iconst (pc := 180) (v := (4 : Int32)) C dX10_init_180 rfl ?_
      obtain ⟨x11, ex11, hf⟩ := oB hf
      refine v_iaload (pc := 181) C ex11 dX10_init_181 ?_
      refine v_if_ne (pc := 182) (tgt := 218) C dX10_init_182 rfl (fun hc => ?_) (fun hc => ?_)
      · rw [if_neg hc] at hf
        refine v_iconst (pc := 218) (v := (0 : Int32)) C dX10_init_218 rfl ?_
        exact V.sub [1, 2, 3, 4, 0] rfl (vX10_init_p219 X ih hf)
      · rw [if_pos (Decidable.of_not_not hc)] at hf
        refine v_aload_n (pc := 185) (j := 1) C dX10_init_185 rfl rfl ?_
        refine v_aload (pc := 186) (j := 0) C dX10_init_186 rfl ?_
        refine v_iconst (pc := 188) (v := (1 : Int32)) C dX10_init_188 rfl ?_
        obtain ⟨x12, ex12, hf⟩ := oB hf
        refine v_iaload (pc := 189) C ex12 dX10_init_189 ?_
        obtain ⟨b13, eb13, hf⟩ := oB hf
        obtain ⟨rb13, _, kb13⟩ := aIs_eq eb13
        obtain ⟨x14, ex14, hf⟩ := oB hf
        refine v_call (pc := 190) (d_V (pc := 190) C (As := [.int x12]) (rest := [.int a5, va_rf x10]) rb13 kb13 nt_9 q2693 yi_X10_place_FigureSurveyModel_Found yk_X10_place rfl (by decide) (by decide) (Nat.le_trans (aw_i (aw_r aw_0)) (by decide)) rfl (mX10_place C.st ex14) dX10_init_190) ?_
        refine v_if_lt (pc := 193) (tgt := 218) C dX10_init_193 rfl (fun hc => ?_) (fun hc => ?_)
        · rw [if_pos hc] at hf
          refine v_iconst (pc := 218) (v := (0 : Int32)) C dX10_init_218 rfl ?_
          exact V.sub [1, 2, 3, 4, 0] rfl (vX10_init_p219 X ih hf)
        · rw [if_neg hc] at hf
          refine v_aload (pc := 196) (j := 0) C dX10_init_196 rfl ?_
          refine v_iconst (pc := 198) (v := (0 : Int32)) C dX10_init_198 rfl ?_
          obtain ⟨x16, ex16, hf⟩ := oB hf
          refine v_iaload (pc := 199) C ex16 dX10_init_199 ?_
          refine v_if_ne (pc := 200) (tgt := 214) C dX10_init_200 rfl (fun hc => ?_) (fun hc => ?_)
          · rw [if_neg hc] at hf
            refine v_iconst (pc := 214) (v := (1 : Int32)) C dX10_init_214 rfl ?_
            refine v_goto (pc := 215) (tgt := 219) C dX10_init_215 rfl ?_
            exact V.sub [1, 2, 3, 4, 0] rfl (vX10_init_p219 X ih hf)
          · rw [if_pos (Decidable.of_not_not hc)] at hf
            refine v_aload_n (pc := 203) (j := 1) C dX10_init_203 rfl rfl ?_
            refine v_aload (pc := 204) (j := 0) C dX10_init_204 rfl ?_
            refine v_iconst (pc := 206) (v := (2 : Int32)) C dX10_init_206 rfl ?_
            obtain ⟨x17, ex17, hf⟩ := oB hf
            refine v_iaload (pc := 207) C ex17 dX10_init_207 ?_
            obtain ⟨b18, eb18, hf⟩ := oB hf
            obtain ⟨rb18, _, kb18⟩ := aIs_eq eb18
            obtain ⟨x19, ex19, hf⟩ := oB hf
            refine v_call (pc := 208) (d_V (pc := 208) C (As := [.int x17]) (rest := [.int a5, va_rf x10]) rb18 kb18 nt_9 q2693 yi_X10_place_FigureSurveyModel_Found yk_X10_place rfl (by decide) (by decide) (Nat.le_trans (aw_i (aw_r aw_0)) (by decide)) rfl (mX10_place C.st ex19) dX10_init_208) ?_
            refine v_if_lt (pc := 211) (tgt := 218) C dX10_init_211 rfl (fun hc => ?_) (fun hc => ?_)
            · simp only [if_pos hc] at hf
              refine v_iconst (pc := 218) (v := (0 : Int32)) C dX10_init_218 rfl ?_
              exact V.sub [1, 2, 3, 4, 0] rfl (vX10_init_p219 X ih hf)
            · simp only [if_neg hc] at hf
              refine v_iconst (pc := 214) (v := (1 : Int32)) C dX10_init_214 rfl ?_
              refine v_goto (pc := 215) (tgt := 219) C dX10_init_215 rfl ?_
              exact V.sub [1, 2, 3, 4, 0] rfl (vX10_init_p219 X ih hf)
def fX10_init_p143 (D : aD) (h : aH) (a0 : Option Nat) (a1 : Option Nat) (a3 : Int32) : Option (aH) :=
  fX10_init_p146 D FU h a0 a1 a3 (0 : Int32)
theorem vX10_init_p143 {h : aH} {a0 : Option Nat} {a1 : Option Nat} {a3 : Int32} {g : aH} (X : aX p l R s m meth c D n0 s0 yX10_init cX10_init 7 164 7 (none) h0) (hf : fX10_init_p143 D h a0 a1 a3 = some g) : V p l e R s m args below meth c D n0 s0 (aEnd D below args s h0 (.inr none, g)) h 143 [(0, false, va_rf a0), (1, false, va_rf a1), (3, false, .int a3)] [] := by
  have C := X.1
  unfold fX10_init_p143 at hf
  refine v_iconst (pc := 143) (v := (0 : Int32)) C dX10_init_143 rfl ?_
  refine v_istore (pc := 144) (lv' := [(5, false, .int (0 : Int32)), (0, false, va_rf a0), (1, false, va_rf a1), (3, false, .int a3)]) C dX10_init_144 (by decide) rfl ?_
  exact V.sub [1, 2, 3, 0] rfl (vX10_init_p146 X _ _ _ _ _ _ _ hf)
def fX10_init_p119 (D : aD) : Nat → aH → (Option Nat) → (Option Nat) → Int32 → (Option Nat) → Int32 → Option (aH)
  | 0, _, _, _, _, _, _ => none
  | n + 1, h, a0, a1, a3, a4, a5 =>
  if a3 ≤ a5 then
  (fX10_init_p143 D h a0 a1 a3)
  else
  ((gR h 9 0 a0).bind fun x1 =>
  (eI h a4 a5).bind fun x2 =>
  (sF D h 100 x1 a5 (.int x2)).bind fun h3 =>
  fX10_init_p119 D n h3 a0 a1 a3 a4 (a5 + 1))
theorem vX10_init_p119 (X : aX p l R s m meth c D n0 s0 yX10_init cX10_init 7 164 7 (none) h0) : ∀ (n : Nat) (h : aH) (a0 : Option Nat) (a1 : Option Nat) (a3 : Int32) (a4 : Option Nat) (a5 : Int32) (g : aH), fX10_init_p119 D n h a0 a1 a3 a4 a5 = some g → V p l e R s m args below meth c D n0 s0 (aEnd D below args s h0 (.inr none, g)) h 119 [(0, false, va_rf a0), (1, false, va_rf a1), (3, false, .int a3), (4, false, va_rf a4), (5, false, .int a5)] [] := by
  have C := X.1
  intro n
  induction n with
  | zero =>
    intro _ _ _ _ _ _ _ hf
    rw [fX10_init_p119] at hf
    cases hf
  | succ n ih =>
    intro h a0 a1 a3 a4 a5 g hf
    rw [fX10_init_p119] at hf
    refine v_iload (pc := 119) (j := 4) C dX10_init_119 rfl ?_
    refine v_iload_n (pc := 121) (j := 2) C dX10_init_121 rfl rfl ?_
    refine v_icmp_ge (pc := 122) (tgt := 143) C dX10_init_122 rfl (fun hc => ?_) (fun hc => ?_)
    · rw [if_pos hc] at hf
      exact V.sub [0, 1, 2] rfl (vX10_init_p143 X hf)
    · rw [if_neg hc] at hf
      refine v_aload_n (pc := 125) (j := 0) C dX10_init_125 rfl rfl ?_
      obtain ⟨x1, ex1, hf⟩ := oB hf
      refine v_getF (pc := 126) C lk_X10_48 (gR_eq ex1) dX10_init_126 ?_
      refine v_iload (pc := 129) (j := 4) C dX10_init_129 rfl ?_
      refine v_aload (pc := 131) (j := 3) C dX10_init_131 rfl ?_
      refine v_iload (pc := 133) (j := 4) C dX10_init_133 rfl ?_
      obtain ⟨x2, ex2, hf⟩ := oB hf
      refine v_iaload (pc := 135) C ex2 dX10_init_135 ?_
      obtain ⟨h3, eh3, hf⟩ := oB hf
      refine v_iastore (pc := 136) C eh3 dX10_init_136 ?_
      refine v_iinc (pc := 137) (j := 4) (v := (a5 + 1)) (lv' := [(5, false, .int (a5 + 1)), (0, false, va_rf a0), (1, false, va_rf a1), (3, false, .int a3), (4, false, va_rf a4)]) C dX10_init_137 rfl rfl (by decide) rfl ?_
      refine v_goto (pc := 140) (tgt := 119) C dX10_init_140 rfl ?_
      exact V.sub [1, 2, 3, 4, 0] rfl (ih _ _ _ _ _ _ _ hf)
def fX10_init_p109 (D : aD) (h : aH) (a0 : Option Nat) (a1 : Option Nat) (a3 : Int32) (a4 : Option Nat) : Option (aH) :=
  (aMkA D h 100 a3 (.int 0)).bind fun h1 =>
  (pF D h1 9 0 a0 (va_rf (some h.1))).bind fun h2 =>
  fX10_init_p119 D FU h2 a0 a1 a3 a4 (0 : Int32)
theorem vX10_init_p109 {h : aH} {a0 : Option Nat} {a1 : Option Nat} {a3 : Int32} {a4 : Option Nat} {g : aH} (X : aX p l R s m meth c D n0 s0 yX10_init cX10_init 7 164 7 (none) h0) (hf : fX10_init_p109 D h a0 a1 a3 a4 = some g) : V p l e R s m args below meth c D n0 s0 (aEnd D below args s h0 (.inr none, g)) h 109 [(0, false, va_rf a0), (1, false, va_rf a1), (3, false, .int a3), (4, false, va_rf a4)] [] := by
  have C := X.1
  unfold fX10_init_p109 at hf
  refine v_aload_n (pc := 109) (j := 0) C dX10_init_109 rfl rfl ?_
  refine v_iload_n (pc := 110) (j := 2) C dX10_init_110 rfl rfl ?_
  obtain ⟨h1, eh1, hf⟩ := oB hf
  refine v_newarray (pc := 111) (t := 100) (v := .int 0) C q169 rfl rfl (by decide) (by decide) rfl eh1 dX10_init_111 ?_
  obtain ⟨h2, eh2, hf⟩ := oB hf
  refine v_putF (pc := 113) C lk_X10_48 tyX10 tyX10_ok nmX10 (tyX10_ok 0 (by decide)) rfl ft_a eh2 dX10_init_113 ?_
  refine v_iconst (pc := 116) (v := (0 : Int32)) C dX10_init_116 rfl ?_
  refine v_istore (pc := 117) (lv' := [(5, false, .int (0 : Int32)), (0, false, va_rf a0), (1, false, va_rf a1), (3, false, .int a3), (4, false, va_rf a4)]) C dX10_init_117 (by decide) rfl ?_
  exact V.sub [1, 2, 3, 4, 0] rfl (vX10_init_p119 X _ _ _ _ _ _ _ _ hf)
def fX10_init_p61 (D : aD) : Nat → aH → (Option Nat) → (Option Nat) → Int32 → Int32 → (Option Nat) → Int32 → Option (aH)
  | 0, _, _, _, _, _, _, _ => none
  | n + 1, h, a0, a1, a2, a3, a4, a5 =>
  (gR h 1 9 a1).bind fun x1 =>
  (aIs h 15 x1).bind fun _ =>
  (fJ2_size D h x1).bind fun x3 =>
  if x3 ≤ a5 then
  (fX10_init_p109 D h a0 a1 a3 a4)
  else
  ((aIs h 1 a1).bind fun _ =>
  (fX2_panelOf D h a1 a5).bind fun x6 =>
  if x6 = a2 then
  ((aIs h 1 a1).bind fun _ =>
  bnd2 (fX2_doubt D h a1 a5) fun x9 h10 =>
  if (10 : Int32) ≤ x9 then
  (fX10_init_p103 D (fX10_init_p61 D n) h10 a0 a1 a2 a3 a4 a5)
  else
  ((sF D h10 100 a4 a3 (.int a5)).bind fun h11 =>
  fX10_init_p103 D (fX10_init_p61 D n) h11 a0 a1 a2 (a3 + 1) a4 a5))
  else
  (fX10_init_p103 D (fX10_init_p61 D n) h a0 a1 a2 a3 a4 a5))
theorem vX10_init_p61 (X : aX p l R s m meth c D n0 s0 yX10_init cX10_init 7 164 7 (none) h0) : ∀ (n : Nat) (h : aH) (a0 : Option Nat) (a1 : Option Nat) (a2 : Int32) (a3 : Int32) (a4 : Option Nat) (a5 : Int32) (g : aH), fX10_init_p61 D n h a0 a1 a2 a3 a4 a5 = some g → V p l e R s m args below meth c D n0 s0 (aEnd D below args s h0 (.inr none, g)) h 61 [(0, false, va_rf a0), (1, false, va_rf a1), (2, false, .int a2), (3, false, .int a3), (4, false, va_rf a4), (5, false, .int a5)] [] := by
  have C := X.1
  intro n
  induction n with
  | zero =>
    intro _ _ _ _ _ _ _ _ hf
    rw [fX10_init_p61] at hf
    cases hf
  | succ n ih =>
    intro h a0 a1 a2 a3 a4 a5 g hf
    rw [fX10_init_p61] at hf
    refine v_iload (pc := 61) (j := 5) C dX10_init_61 rfl ?_
    refine v_aload_n (pc := 63) (j := 1) C dX10_init_63 rfl rfl ?_
    obtain ⟨x1, ex1, hf⟩ := oB hf
    refine v_getF (pc := 64) C lk_X10_38 (gR_eq ex1) dX10_init_64 ?_
    obtain ⟨b2, eb2, hf⟩ := oB hf
    obtain ⟨rb2, _, kb2⟩ := aIs_eq eb2
    obtain ⟨x3, ex3, hf⟩ := oB hf
    refine v_call (pc := 67) (d_V (pc := 67) C (As := []) (rest := [.int a5]) rb2 kb2 nt_15 q2689 yi_J2_size_java_util_ArrayList yk_J2_size rfl (by decide) (by decide) (Nat.le_trans (aw_i aw_0) (by decide)) rfl (mJ2_size C.st ex3) dX10_init_67) ?_
    refine v_icmp_ge (pc := 70) (tgt := 109) C dX10_init_70 rfl (fun hc => ?_) (fun hc => ?_)
    · rw [if_pos hc] at hf
      exact V.sub [0, 1, 3, 4] rfl (vX10_init_p109 X hf)
    · rw [if_neg hc] at hf
      refine v_aload_n (pc := 73) (j := 1) C dX10_init_73 rfl rfl ?_
      refine v_iload (pc := 74) (j := 5) C dX10_init_74 rfl ?_
      obtain ⟨b5, eb5, hf⟩ := oB hf
      obtain ⟨rb5, _, kb5⟩ := aIs_eq eb5
      obtain ⟨x6, ex6, hf⟩ := oB hf
      refine v_call (pc := 76) (d_VN (pc := 76) C (As := [.int a5]) (rest := []) rb5 kb5 nt_1 q2690 yi_X2_panelOf_FigureSurveyModel yk_X2_panelOf rfl (by decide) (by decide) (Nat.le_trans aw_0 (by decide)) rfl (mX2_panelOf C.st ex6) dX10_init_76) ?_
      refine v_iload_n (pc := 79) (j := 2) C dX10_init_79 rfl rfl ?_
      refine v_icmp_ne (pc := 80) (tgt := 103) C dX10_init_80 rfl (fun hc => ?_) (fun hc => ?_)
      · rw [if_neg hc] at hf
        exact V.sub [0, 1, 2, 3, 4, 5] rfl (vX10_init_p103 X ih hf)
      · rw [if_pos (Decidable.of_not_not hc)] at hf
        refine v_aload_n (pc := 83) (j := 1) C dX10_init_83 rfl rfl ?_
        refine v_iload (pc := 84) (j := 5) C dX10_init_84 rfl ?_
        obtain ⟨b8, eb8, hf⟩ := oB hf
        obtain ⟨rb8, _, kb8⟩ := aIs_eq eb8
        obtain ⟨x9, h10, ex9, hf⟩ := bnd2_eq hf
        refine v_call (pc := 86) (d_VN (pc := 86) C (As := [.int a5]) (rest := []) rb8 kb8 nt_1 q2691 yi_X2_doubt_FigureSurveyModel yk_X2_doubt rfl (by decide) (by decide) (Nat.le_trans aw_0 (by decide)) rfl (mX2_doubt C.st ex9) dX10_init_86) ?_
        refine v_bipush (pc := 89) (v := (10 : Int32)) C dX10_init_89 rfl ?_
        refine v_icmp_ge (pc := 91) (tgt := 103) C dX10_init_91 rfl (fun hc => ?_) (fun hc => ?_)
        · rw [if_pos hc] at hf
          exact V.sub [0, 1, 2, 3, 4, 5] rfl (vX10_init_p103 X ih hf)
        · rw [if_neg hc] at hf
          refine v_aload (pc := 94) (j := 4) C dX10_init_94 rfl ?_
          refine v_iload_n (pc := 96) (j := 3) C dX10_init_96 rfl rfl ?_
          refine v_iinc (pc := 97) (j := 3) (v := (a3 + 1)) (lv' := [(3, false, .int (a3 + 1)), (0, false, va_rf a0), (1, false, va_rf a1), (2, false, .int a2), (4, false, va_rf a4), (5, false, .int a5)]) C dX10_init_97 rfl rfl (by decide) rfl ?_
          refine v_iload (pc := 100) (j := 5) C dX10_init_100 rfl ?_
          obtain ⟨h11, eh11, hf⟩ := oB hf
          refine v_iastore (pc := 102) C eh11 dX10_init_102 ?_
          exact V.sub [1, 2, 3, 0, 4, 5] rfl (vX10_init_p103 X ih hf)
def fX10_init (D : aD) (h : aH) (a0 : Option Nat) (a1 : Option Nat) (a2 : Int32) : Option (aH) :=
  (pF D h 9 7 a0 (va_rf a1)).bind fun h1 =>
  (a0).bind fun _ =>
  (aMkA D h1 104 (12 : Int32) .null).bind fun h3 =>
  (pF D h3 9 2 a0 (va_rf (some h1.1))).bind fun h4 =>
  (gR h4 9 7 a0).bind fun x5 =>
  (gR h4 1 13 x5).bind fun x6 =>
  (aIs h4 15 x6).bind fun _ =>
  (fJ2_size D h4 x6).bind fun x8 =>
  (aMkA D h4 102 x8 (.int 0)).bind fun h10 =>
  (pF D h10 9 4 a0 (va_rf (some h4.1))).bind fun h11 =>
  (gR h11 9 7 a0).bind fun x12 =>
  (gR h11 1 13 x12).bind fun x13 =>
  (aIs h11 15 x13).bind fun _ =>
  (fJ2_size D h11 x13).bind fun x15 =>
  (aMkA D h11 102 x15 (.int 0)).bind fun h17 =>
  (pF D h17 9 5 a0 (va_rf (some h11.1))).bind fun h18 =>
  (aMkA D h18 100 (8 : Int32) (.int 0)).bind fun h19 =>
  fX10_init_p61 D FU h19 a0 a1 a2 (0 : Int32) (some h18.1) (0 : Int32)
theorem vX10_init {h : aH} {a0 : Option Nat} {a1 : Option Nat} {a2 : Int32} {g : aH} (X : aX p l R s m meth c D n0 s0 yX10_init cX10_init 7 164 7 (none) h0) (hf : fX10_init D h a0 a1 a2 = some g) : V p l e R s m args below meth c D n0 s0 (aEnd D below args s h0 (.inr none, g)) h 0 [(0, false, va_rf a0), (1, false, va_rf a1), (2, false, .int a2)] [] := by
  have C := X.1
  unfold fX10_init at hf
  refine v_aload_n (pc := 0) (j := 0) C dX10_init_0 rfl rfl ?_
  refine v_aload_n (pc := 1) (j := 1) C dX10_init_1 rfl rfl ?_
  obtain ⟨h1, eh1, hf⟩ := oB hf
  refine v_putC (pc := 2) C X.2.2.2.2.2.1 lk_X10_3 rfl q2736 tyX10 tyX10_ok nmX10 (tyX10_ok 7 (by decide)) rfl ft_o eh1 dX10_init_2 ?_
  refine v_aload_n (pc := 5) (j := 0) C dX10_init_5 rfl rfl ?_
  obtain ⟨_, e2, hf⟩ := oB hf
  refine v_objInit (pc := 6) C e2 q2687 q138 q139 (by decide) (Nat.le_trans (Nat.add_le_add_right aw_0 12) (by decide)) dX10_init_6 ?_
  refine v_aload_n (pc := 9) (j := 0) C dX10_init_9 rfl rfl ?_
  refine v_bipush (pc := 10) (v := (12 : Int32)) C dX10_init_10 rfl ?_
  obtain ⟨h3, eh3, hf⟩ := oB hf
  refine v_anewarrayA (pc := 12) (t := 104) (t9 := .int) C (by decide +kernel) rfl (by decide) q2688 q208 eh3 dX10_init_12 ?_
  obtain ⟨h4, eh4, hf⟩ := oB hf
  refine v_putF (pc := 15) C lk_X10_17 tyX10 tyX10_ok nmX10 (tyX10_ok 2 (by decide)) rfl ft_a eh4 dX10_init_15 ?_
  refine v_aload_n (pc := 18) (j := 0) C dX10_init_18 rfl rfl ?_
  refine v_aload_n (pc := 19) (j := 0) C dX10_init_19 rfl rfl ?_
  obtain ⟨x5, ex5, hf⟩ := oB hf
  refine v_getF (pc := 20) C lk_X10_3 (gR_eq ex5) dX10_init_20 ?_
  obtain ⟨x6, ex6, hf⟩ := oB hf
  refine v_getF (pc := 23) C lk_X10_21 (gR_eq ex6) dX10_init_23 ?_
  obtain ⟨b7, eb7, hf⟩ := oB hf
  obtain ⟨rb7, _, kb7⟩ := aIs_eq eb7
  obtain ⟨x8, ex8, hf⟩ := oB hf
  refine v_call (pc := 26) (d_V (pc := 26) C (As := []) (rest := [va_rf a0]) rb7 kb7 nt_15 q2689 yi_J2_size_java_util_ArrayList yk_J2_size rfl (by decide) (by decide) (Nat.le_trans (aw_r aw_0) (by decide)) rfl (mJ2_size C.st ex8) dX10_init_26) ?_
  obtain ⟨h10, eh10, hf⟩ := oB hf
  refine v_newarray (pc := 29) (t := 102) (v := .int 0) C q1321 rfl rfl (by decide) (by decide) rfl eh10 dX10_init_29 ?_
  obtain ⟨h11, eh11, hf⟩ := oB hf
  refine v_putC (pc := 31) C X.2.2.2.2.2.1 lk_X10_31 rfl q2730 tyX10 tyX10_ok nmX10 (tyX10_ok 4 (by decide)) rfl ft_a eh11 dX10_init_31 ?_
  refine v_aload_n (pc := 34) (j := 0) C dX10_init_34 rfl rfl ?_
  refine v_aload_n (pc := 35) (j := 0) C dX10_init_35 rfl rfl ?_
  obtain ⟨x12, ex12, hf⟩ := oB hf
  refine v_getF (pc := 36) C lk_X10_3 (gR_eq ex12) dX10_init_36 ?_
  obtain ⟨x13, ex13, hf⟩ := oB hf
  refine v_getF (pc := 39) C lk_X10_21 (gR_eq ex13) dX10_init_39 ?_
  obtain ⟨b14, eb14, hf⟩ := oB hf
  obtain ⟨rb14, _, kb14⟩ := aIs_eq eb14
  obtain ⟨x15, ex15, hf⟩ := oB hf
  refine v_call (pc := 42) (d_V (pc := 42) C (As := []) (rest := [va_rf a0]) rb14 kb14 nt_15 q2689 yi_J2_size_java_util_ArrayList yk_J2_size rfl (by decide) (by decide) (Nat.le_trans (aw_r aw_0) (by decide)) rfl (mJ2_size C.st ex15) dX10_init_42) ?_
  obtain ⟨h17, eh17, hf⟩ := oB hf
  refine v_newarray (pc := 45) (t := 102) (v := .int 0) C q1321 rfl rfl (by decide) (by decide) rfl eh17 dX10_init_45 ?_
  obtain ⟨h18, eh18, hf⟩ := oB hf
  refine v_putC (pc := 47) C X.2.2.2.2.2.1 lk_X10_35 rfl q2732 tyX10 tyX10_ok nmX10 (tyX10_ok 5 (by decide)) rfl ft_a eh18 dX10_init_47 ?_
  refine v_iconst (pc := 50) (v := (0 : Int32)) C dX10_init_50 rfl ?_
  refine v_istore_n (pc := 51) (lv' := [(3, false, .int (0 : Int32)), (0, false, va_rf a0), (1, false, va_rf a1), (2, false, .int a2)]) C dX10_init_51 rfl (by decide) rfl ?_
  refine v_bipush (pc := 52) (v := (8 : Int32)) C dX10_init_52 rfl ?_
  obtain ⟨h19, eh19, hf⟩ := oB hf
  refine v_newarray (pc := 54) (t := 100) (v := .int 0) C q169 rfl rfl (by decide) (by decide) rfl eh19 dX10_init_54 ?_
  refine v_astore (pc := 56) (lv' := [(4, false, va_rf (some h18.1)), (3, false, .int (0 : Int32)), (0, false, va_rf a0), (1, false, va_rf a1), (2, false, .int a2)]) C dX10_init_56 (by decide) rfl ?_
  refine v_iconst (pc := 58) (v := (0 : Int32)) C dX10_init_58 rfl ?_
  refine v_istore (pc := 59) (lv' := [(5, false, .int (0 : Int32)), (4, false, va_rf (some h18.1)), (3, false, .int (0 : Int32)), (0, false, va_rf a0), (1, false, va_rf a1), (2, false, .int a2)]) C dX10_init_59 (by decide) rfl ?_
  exact V.sub [3, 4, 5, 2, 1, 0] rfl (vX10_init_p61 X _ _ _ _ _ _ _ _ _ hf)
theorem mX10_init {l : Launch} {D : aD} {h : aH} {a0 : Option Nat} {a1 : Option Nat} {a2 : Int32} {g : aH} (hst : l.stackTraces = false) (hf : fX10_init D h a0 a1 a2 = some g) : aM l D yX10_init cX10_init 7 (none) 7 164 [va_rf a0, va_rf a1, .int a2] h (.inr none, g) :=
  aM.ofX [(false, va_rf a0), (false, va_rf a1), (false, .int a2)] rfl (ap_r (ap_r (ap_c rfl ap_0))) (by decide +kernel) hst (al_of (aw_r (aw_r (aw_i aw_0))) (by decide)) fun p e s m args below meth c X => V.sub (lv' := [(0, false, va_rf a0), (1, false, va_rf a1), (2, false, .int a2)]) [0, 1, 2] rfl (vX10_init X hf)
def fX2_stand (D : aD) (h : aH) (a0 : Option Nat) (a1 : Option Nat) (a2 : Int32) : Option (Int32) :=
  (gR h 9 4 a1).bind fun x1 =>
  (eZ h x1 a2).bind fun x2 =>
  if x2 = 0 then
  (some (2 : Int32))
  else
  ((gR h 9 5 a1).bind fun x3 =>
  (eZ h x3 a2).bind fun x4 =>
  if x4 = 0 then
  (some (0 : Int32))
  else
  (some (1 : Int32)))
theorem vX2_stand {h : aH} {a0 : Option Nat} {a1 : Option Nat} {a2 : Int32} {q : Int32} (X : aX p l R s m meth c D n0 s0 yX2_stand cX2_stand 0 0 3 (some .int) h0) (hf : fX2_stand D h a0 a1 a2 = some q) : V p l e R s m args below meth c D n0 s0 (aEnd D below args s h0 (.inr (some (.int q)), h)) h 0 [(0, false, va_rf a0), (1, false, va_rf a1), (2, false, .int a2)] [] := by
  have C := X.1
  unfold fX2_stand at hf
  refine v_aload_n (pc := 0) (j := 1) C dX2_stand_0 rfl rfl ?_
  obtain ⟨x1, ex1, hf⟩ := oB hf
  refine v_getF (pc := 1) C lk_X2_189 (gR_eq ex1) dX2_stand_1 ?_
  refine v_iload_n (pc := 4) (j := 2) C dX2_stand_4 rfl rfl ?_
  obtain ⟨x2, ex2, hf⟩ := oB hf
  refine v_baload (pc := 5) C ex2 dX2_stand_5 ?_
  refine v_if_ne (pc := 6) (tgt := 13) C dX2_stand_6 rfl (fun hc => ?_) (fun hc => ?_)
  · rw [if_neg hc] at hf
    refine v_aload_n (pc := 13) (j := 1) C dX2_stand_13 rfl rfl ?_
    obtain ⟨x3, ex3, hf⟩ := oB hf
    refine v_getF (pc := 14) C lk_X2_193 (gR_eq ex3) dX2_stand_14 ?_
    refine v_iload_n (pc := 17) (j := 2) C dX2_stand_17 rfl rfl ?_
    obtain ⟨x4, ex4, hf⟩ := oB hf
    refine v_baload (pc := 18) C ex4 dX2_stand_18 ?_
    refine v_if_eq (pc := 19) (tgt := 26) C dX2_stand_19 rfl (fun hc => ?_) (fun hc => ?_)
    · rw [if_pos hc] at hf
      refine v_iconst (pc := 26) (v := (0 : Int32)) C dX2_stand_26 rfl ?_
      cases hf
      exact v_ireturn (pc := 27) C X.2.1 X.2.2.1 X.2.2.2.1 rfl dX2_stand_27
    · rw [if_neg hc] at hf
      refine v_iconst (pc := 22) (v := (1 : Int32)) C dX2_stand_22 rfl ?_
      refine v_goto (pc := 23) (tgt := 27) C dX2_stand_23 rfl ?_
      cases hf
      exact v_ireturn (pc := 27) C X.2.1 X.2.2.1 X.2.2.2.1 rfl dX2_stand_27
  · rw [if_pos (Decidable.of_not_not hc)] at hf
    refine v_iconst (pc := 9) (v := (2 : Int32)) C dX2_stand_9 rfl ?_
    refine v_goto (pc := 10) (tgt := 27) C dX2_stand_10 rfl ?_
    cases hf
    exact v_ireturn (pc := 27) C X.2.1 X.2.2.1 X.2.2.2.1 rfl dX2_stand_27
theorem mX2_stand {l : Launch} {D : aD} {h : aH} {a0 : Option Nat} {a1 : Option Nat} {a2 : Int32} {q : Int32} (hst : l.stackTraces = false) (hf : fX2_stand D h a0 a1 a2 = some q) : aM l D yX2_stand cX2_stand 3 (some .int) 0 0 [va_rf a0, va_rf a1, .int a2] h (.inr (some (.int q)), h) :=
  aM.ofX [(false, va_rf a0), (false, va_rf a1), (false, .int a2)] rfl (ap_r (ap_r (ap_c rfl ap_0))) (by decide +kernel) hst (al_of (aw_r (aw_r (aw_i aw_0))) (by decide)) fun p e s m args below meth c X => V.sub (lv' := [(0, false, va_rf a0), (1, false, va_rf a1), (2, false, .int a2)]) [0, 1, 2] rfl (vX2_stand X hf)
def fX2_standOf (D : aD) (h : aH) (a0 : Option Nat) (a1 : Int32) : Option (Int32 × aH) :=
  (pF D h 1 0 a0 (.int (0 : Int32))).bind fun h1 =>
  (aIs h1 1 a0).bind fun _ =>
  (fX2_noFinding D h1 a0 a1).bind fun x3 =>
  if x3 = 0 then
  ((aMk D h1 (9, dfX10)).bind fun h5 =>
  (gR h5 1 13 a0).bind fun x6 =>
  (aIs h5 15 x6).bind fun _ =>
  (fJ2_get D h5 x6 a1).bind fun x8 =>
  (aCast h5 [100] x8).bind fun _ =>
  (eI h5 x8 (1 : Int32)).bind fun x11 =>
  (aIs h5 1 a0).bind fun _ =>
  (fX2_panelOf D h5 a0 x11).bind fun x13 =>
  (fX10_init D h5 (some h1.1) a0 x13).bind fun h17 =>
  (aIs h17 1 a0).bind fun _ =>
  (fX2_stand D h17 a0 (some h1.1) a1).bind fun x19 =>
  some (x19, h17))
  else
  ((aIs h1 1 a0).bind fun _ =>
  bnd2 (fX2_err D h1 a0 (1 : Int32)) fun x22 h23 =>
  some (x22, h23))
theorem vX2_standOf {h : aH} {a0 : Option Nat} {a1 : Int32} {q : Int32} {g : aH} (X : aX p l R s m meth c D n0 s0 yX2_standOf cX2_standOf 8 190 2 (some .int) h0) (hf : fX2_standOf D h a0 a1 = some (q, g)) : V p l e R s m args below meth c D n0 s0 (aEnd D below args s h0 (.inr (some (.int q)), g)) h 0 [(0, false, va_rf a0), (1, false, .int a1)] [] := by
  have C := X.1
  unfold fX2_standOf at hf
  refine v_aload_n (pc := 0) (j := 0) C dX2_standOf_0 rfl rfl ?_
  refine v_iconst (pc := 1) (v := (0 : Int32)) C dX2_standOf_1 rfl ?_
  obtain ⟨h1, eh1, hf⟩ := oB hf
  refine v_putF (pc := 2) C lk_X2_69 tyX2 tyX2_ok nmX2 (tyX2_ok 0 (by decide)) rfl rfl eh1 dX2_standOf_2 ?_
  refine v_aload_n (pc := 5) (j := 0) C dX2_standOf_5 rfl rfl ?_
  refine v_iload_n (pc := 6) (j := 1) C dX2_standOf_6 rfl rfl ?_
  obtain ⟨b2, eb2, hf⟩ := oB hf
  obtain ⟨rb2, _, kb2⟩ := aIs_eq eb2
  obtain ⟨x3, ex3, hf⟩ := oB hf
  refine v_call (pc := 7) (d_V (pc := 7) C (As := [.int a1]) (rest := []) rb2 kb2 nt_1 q2674 yi_X2_noFinding_FigureSurveyModel yk_X2_noFinding rfl (by decide) (by decide) (Nat.le_trans aw_0 (by decide)) rfl (mX2_noFinding C.st ex3) dX2_standOf_7) ?_
  refine v_if_eq (pc := 10) (tgt := 21) C dX2_standOf_10 rfl (fun hc => ?_) (fun hc => ?_)
  · rw [if_pos hc] at hf
    refine v_aload_n (pc := 21) (j := 0) C dX2_standOf_21 rfl rfl ?_
    obtain ⟨h5, eh5, hf⟩ := oB hf
    refine v_new (pc := 22) (t := 9) (fs := dfX10) (T := TX10) (N := 8) C rfl in_X10 tyX10 tyX10_ok q2682 q2683 q121 dfX10_ok rfl eh5 dX2_standOf_22 ?_
    refine v_dup (pc := 25) C dX2_standOf_25 (va_rfc _) ?_
    refine v_aload_n (pc := 26) (j := 0) C dX2_standOf_26 rfl rfl ?_
    refine v_aload_n (pc := 27) (j := 0) C dX2_standOf_27 rfl rfl ?_
    refine v_aload_n (pc := 28) (j := 0) C dX2_standOf_28 rfl rfl ?_
    obtain ⟨x6, ex6, hf⟩ := oB hf
    refine v_getF (pc := 29) C lk_X2_47 (gR_eq ex6) dX2_standOf_29 ?_
    refine v_iload_n (pc := 32) (j := 1) C dX2_standOf_32 rfl rfl ?_
    obtain ⟨b7, eb7, hf⟩ := oB hf
    obtain ⟨rb7, _, kb7⟩ := aIs_eq eb7
    obtain ⟨x8, ex8, hf⟩ := oB hf
    refine v_call (pc := 33) (d_V (pc := 33) C (As := [.int a1]) (rest := [va_rf a0, va_rf a0, va_rf (some h1.1), va_rf (some h1.1), va_rf a0]) rb7 kb7 nt_15 q2520 yi_J2_get_java_util_ArrayList yk_J2_get rfl (by decide) (by decide) (Nat.le_trans (aw_r (aw_r (aw_r (aw_r (aw_r aw_0))))) (by decide)) rfl (mJ2_get C.st ex8) dX2_standOf_33) ?_
    obtain ⟨_, e10, hf⟩ := oB hf
    refine v_cast (pc := 36) C q2521 ct__I e10 dX2_standOf_36 ?_
    refine v_iconst (pc := 39) (v := (1 : Int32)) C dX2_standOf_39 rfl ?_
    obtain ⟨x11, ex11, hf⟩ := oB hf
    refine v_iaload (pc := 40) C ex11 dX2_standOf_40 ?_
    obtain ⟨b12, eb12, hf⟩ := oB hf
    obtain ⟨rb12, _, kb12⟩ := aIs_eq eb12
    obtain ⟨x13, ex13, hf⟩ := oB hf
    refine v_call (pc := 41) (d_V (pc := 41) C (As := [.int x11]) (rest := [va_rf a0, va_rf (some h1.1), va_rf (some h1.1), va_rf a0]) rb12 kb12 nt_1 q2552 yi_X2_panelOf_FigureSurveyModel yk_X2_panelOf rfl (by decide) (by decide) (Nat.le_trans (aw_r (aw_r (aw_r (aw_r aw_0)))) (by decide)) rfl (mX2_panelOf C.st ex13) dX2_standOf_41) ?_
    obtain ⟨h17, ex16, hf⟩ := oB hf
    refine v_callU (pc := 44) (d_I (pc := 44) C (As := [va_rf a0, .int x13]) (rest := [va_rf (some h1.1), va_rf a0]) rfl rfl rfl q2684 q2685 yk_X10_init rfl (by decide) (by decide) (Nat.le_trans (aw_r (aw_r aw_0)) (by decide)) rfl (mX10_init C.st ex16) dX2_standOf_44) ?_
    refine v_iload_n (pc := 47) (j := 1) C dX2_standOf_47 rfl rfl ?_
    obtain ⟨b18, eb18, hf⟩ := oB hf
    obtain ⟨rb18, _, kb18⟩ := aIs_eq eb18
    obtain ⟨x19, ex19, hf⟩ := oB hf
    refine v_call (pc := 48) (d_V (pc := 48) C (As := [va_rf (some h1.1), .int a1]) (rest := []) rb18 kb18 nt_1 q2754 yi_X2_stand_FigureSurveyModel yk_X2_stand rfl (by decide) (by decide) (Nat.le_trans aw_0 (by decide)) rfl (mX2_stand C.st ex19) dX2_standOf_48) ?_
    cases hf
    exact v_ireturn (pc := 51) C X.2.1 X.2.2.1 X.2.2.2.1 rfl dX2_standOf_51
  · rw [if_neg hc] at hf
    refine v_aload_n (pc := 13) (j := 0) C dX2_standOf_13 rfl rfl ?_
    refine v_iconst (pc := 14) (v := (1 : Int32)) C dX2_standOf_14 rfl ?_
    obtain ⟨b21, eb21, hf⟩ := oB hf
    obtain ⟨rb21, _, kb21⟩ := aIs_eq eb21
    obtain ⟨x22, h23, ex22, hf⟩ := bnd2_eq hf
    refine v_call (pc := 15) (d_V (pc := 15) C (As := [.int (1 : Int32)]) (rest := []) rb21 kb21 nt_1 q2498 yi_X2_err_FigureSurveyModel yk_X2_err rfl (by decide) (by decide) (Nat.le_trans aw_0 (by decide)) rfl (mX2_err C.st ex22) dX2_standOf_15) ?_
    refine v_goto (pc := 18) (tgt := 51) C dX2_standOf_18 rfl ?_
    cases hf
    exact v_ireturn (pc := 51) C X.2.1 X.2.2.1 X.2.2.2.1 rfl dX2_standOf_51
theorem mX2_standOf {l : Launch} {D : aD} {h : aH} {a0 : Option Nat} {a1 : Int32} {q : Int32} {g : aH} (hst : l.stackTraces = false) (hf : fX2_standOf D h a0 a1 = some (q, g)) : aM l D yX2_standOf cX2_standOf 2 (some .int) 8 190 [va_rf a0, .int a1] h (.inr (some (.int q)), g) :=
  aM.ofX [(false, va_rf a0), (false, .int a1)] rfl (ap_r (ap_c rfl ap_0)) (by decide +kernel) hst (al_of (aw_r (aw_i aw_0)) (by decide)) fun p e s m args below meth c X => V.sub (lv' := [(0, false, va_rf a0), (1, false, .int a1)]) [0, 1] rfl (vX2_standOf X hf)
def fX2_orderAt (D : aD) (h : aH) (a0 : Option Nat) (a1 : Int32) (a2 : Int32) : Option (Int32 × aH) :=
  (pF D h 1 0 a0 (.int (0 : Int32))).bind fun h1 =>
  (aIs h1 1 a0).bind fun _ =>
  (fX2_noPanel D h1 a0 a1).bind fun x3 =>
  if x3 = 0 then
  ((aMk D h1 (9, dfX10)).bind fun h5 =>
  (fX10_init D h5 (some h1.1) a0 a1).bind fun h8 =>
  (gR h8 9 1 (some h1.1)).bind fun x9 =>
  (eN h8 x9).bind fun x10 =>
  (fX2_in D h8 a2 (0 : Int32) (x10 - (1 : Int32))).bind fun x12 =>
  if x12 = 0 then
  (some ((-1 : Int32), h8))
  else
  ((gR h8 9 0 (some h1.1)).bind fun x14 =>
  (gR h8 9 1 (some h1.1)).bind fun x15 =>
  (eI h8 x15 a2).bind fun x16 =>
  (eI h8 x14 x16).bind fun x17 =>
  some (x17, h8)))
  else
  ((aIs h1 1 a0).bind fun _ =>
  bnd2 (fX2_err D h1 a0 (1 : Int32)) fun x19 h20 =>
  some (x19, h20))
theorem vX2_orderAt {h : aH} {a0 : Option Nat} {a1 : Int32} {a2 : Int32} {q : Int32} {g : aH} (X : aX p l R s m meth c D n0 s0 yX2_orderAt cX2_orderAt 8 190 4 (some .int) h0) (hf : fX2_orderAt D h a0 a1 a2 = some (q, g)) : V p l e R s m args below meth c D n0 s0 (aEnd D below args s h0 (.inr (some (.int q)), g)) h 0 [(0, false, va_rf a0), (1, false, .int a1), (2, false, .int a2)] [] := by
  have C := X.1
  unfold fX2_orderAt at hf
  refine v_aload_n (pc := 0) (j := 0) C dX2_orderAt_0 rfl rfl ?_
  refine v_iconst (pc := 1) (v := (0 : Int32)) C dX2_orderAt_1 rfl ?_
  obtain ⟨h1, eh1, hf⟩ := oB hf
  refine v_putF (pc := 2) C lk_X2_69 tyX2 tyX2_ok nmX2 (tyX2_ok 0 (by decide)) rfl rfl eh1 dX2_orderAt_2 ?_
  refine v_aload_n (pc := 5) (j := 0) C dX2_orderAt_5 rfl rfl ?_
  refine v_iload_n (pc := 6) (j := 1) C dX2_orderAt_6 rfl rfl ?_
  obtain ⟨b2, eb2, hf⟩ := oB hf
  obtain ⟨rb2, _, kb2⟩ := aIs_eq eb2
  obtain ⟨x3, ex3, hf⟩ := oB hf
  refine v_call (pc := 7) (d_V (pc := 7) C (As := [.int a1]) (rest := []) rb2 kb2 nt_1 q2508 yi_X2_noPanel_FigureSurveyModel yk_X2_noPanel rfl (by decide) (by decide) (Nat.le_trans aw_0 (by decide)) rfl (mX2_noPanel C.st ex3) dX2_orderAt_7) ?_
  refine v_if_eq (pc := 10) (tgt := 19) C dX2_orderAt_10 rfl (fun hc => ?_) (fun hc => ?_)
  · rw [if_pos hc] at hf
    obtain ⟨h5, eh5, hf⟩ := oB hf
    refine v_new (pc := 19) (t := 9) (fs := dfX10) (T := TX10) (N := 8) C rfl in_X10 tyX10 tyX10_ok q2682 q2683 q121 dfX10_ok rfl eh5 dX2_orderAt_19 ?_
    refine v_dup (pc := 22) C dX2_orderAt_22 (va_rfc _) ?_
    refine v_aload_n (pc := 23) (j := 0) C dX2_orderAt_23 rfl rfl ?_
    refine v_iload_n (pc := 24) (j := 1) C dX2_orderAt_24 rfl rfl ?_
    obtain ⟨h8, ex7, hf⟩ := oB hf
    refine v_callU (pc := 25) (d_I (pc := 25) C (As := [va_rf a0, .int a1]) (rest := [va_rf (some h1.1)]) rfl rfl rfl q2684 q2685 yk_X10_init rfl (by decide) (by decide) (Nat.le_trans (aw_r aw_0) (by decide)) rfl (mX10_init C.st ex7) dX2_orderAt_25) ?_
    refine v_astore_n (pc := 28) (lv' := [(3, false, va_rf (some h1.1)), (0, false, va_rf a0), (1, false, .int a1), (2, false, .int a2)]) C dX2_orderAt_28 rfl (by decide) rfl ?_
    refine v_iload_n (pc := 29) (j := 3) C dX2_orderAt_29 rfl rfl ?_
    refine v_iconst (pc := 30) (v := (0 : Int32)) C dX2_orderAt_30 rfl ?_
    refine v_aload_n (pc := 31) (j := 0) C dX2_orderAt_31 rfl rfl ?_
    obtain ⟨x9, ex9, hf⟩ := oB hf
    refine v_getF (pc := 32) C lk_X2_203 (gR_eq ex9) dX2_orderAt_32 ?_
    obtain ⟨x10, ex10, hf⟩ := oB hf
    refine v_alen (pc := 35) C ex10 dX2_orderAt_35 ?_
    refine v_iconst (pc := 36) (v := (1 : Int32)) C dX2_orderAt_36 rfl ?_
    refine v_isub (pc := 37) C dX2_orderAt_37 ?_
    obtain ⟨x12, ex12, hf⟩ := oB hf
    refine v_call (pc := 38) (d_S (pc := 38) C (As := [.int a2, .int (0 : Int32), .int (x10 - (1 : Int32))]) (rest := []) q2495 q2496 yk_X2_in rfl (by decide) (by decide) (Nat.le_trans aw_0 (by decide)) rfl (mX2_in C.st ex12) dX2_orderAt_38) ?_
    refine v_if_eq (pc := 41) (tgt := 58) C dX2_orderAt_41 rfl (fun hc => ?_) (fun hc => ?_)
    · rw [if_pos hc] at hf
      refine v_iconst (pc := 58) (v := (-1 : Int32)) C dX2_orderAt_58 rfl ?_
      cases hf
      exact v_ireturn (pc := 59) C X.2.1 X.2.2.1 X.2.2.2.1 rfl dX2_orderAt_59
    · rw [if_neg hc] at hf
      refine v_aload_n (pc := 44) (j := 0) C dX2_orderAt_44 rfl rfl ?_
      obtain ⟨x14, ex14, hf⟩ := oB hf
      refine v_getF (pc := 45) C lk_X2_206 (gR_eq ex14) dX2_orderAt_45 ?_
      refine v_aload_n (pc := 48) (j := 0) C dX2_orderAt_48 rfl rfl ?_
      obtain ⟨x15, ex15, hf⟩ := oB hf
      refine v_getF (pc := 49) C lk_X2_203 (gR_eq ex15) dX2_orderAt_49 ?_
      refine v_iload_n (pc := 52) (j := 3) C dX2_orderAt_52 rfl rfl ?_
      obtain ⟨x16, ex16, hf⟩ := oB hf
      refine v_iaload (pc := 53) C ex16 dX2_orderAt_53 ?_
      obtain ⟨x17, ex17, hf⟩ := oB hf
      refine v_iaload (pc := 54) C ex17 dX2_orderAt_54 ?_
      refine v_goto (pc := 55) (tgt := 59) C dX2_orderAt_55 rfl ?_
      cases hf
      exact v_ireturn (pc := 59) C X.2.1 X.2.2.1 X.2.2.2.1 rfl dX2_orderAt_59
  · rw [if_neg hc] at hf
    refine v_aload_n (pc := 13) (j := 0) C dX2_orderAt_13 rfl rfl ?_
    refine v_iconst (pc := 14) (v := (1 : Int32)) C dX2_orderAt_14 rfl ?_
    obtain ⟨b18, eb18, hf⟩ := oB hf
    obtain ⟨rb18, _, kb18⟩ := aIs_eq eb18
    obtain ⟨x19, h20, ex19, hf⟩ := bnd2_eq hf
    refine v_call (pc := 15) (d_V (pc := 15) C (As := [.int (1 : Int32)]) (rest := []) rb18 kb18 nt_1 q2498 yi_X2_err_FigureSurveyModel yk_X2_err rfl (by decide) (by decide) (Nat.le_trans aw_0 (by decide)) rfl (mX2_err C.st ex19) dX2_orderAt_15) ?_
    cases hf
    exact v_ireturn (pc := 18) C X.2.1 X.2.2.1 X.2.2.2.1 rfl dX2_orderAt_18
theorem mX2_orderAt {l : Launch} {D : aD} {h : aH} {a0 : Option Nat} {a1 : Int32} {a2 : Int32} {q : Int32} {g : aH} (hst : l.stackTraces = false) (hf : fX2_orderAt D h a0 a1 a2 = some (q, g)) : aM l D yX2_orderAt cX2_orderAt 4 (some .int) 8 190 [va_rf a0, .int a1, .int a2] h (.inr (some (.int q)), g) :=
  aM.ofX [(false, va_rf a0), (false, .int a1), (false, .int a2)] rfl (ap_r (ap_c rfl (ap_c rfl ap_0))) (by decide +kernel) hst (al_of (aw_r (aw_i (aw_i aw_0))) (by decide)) fun p e s m args below meth c X => V.sub (lv' := [(0, false, va_rf a0), (1, false, .int a1), (2, false, .int a2)]) [0, 1, 2] rfl (vX2_orderAt X hf)
def fX2_weight_p51 (D : aD) (h : aH) (K4 : (Option Nat) → (Option Nat) → Int32 → Int32 → Option (Int32)) (a0 : Option Nat) (a1 : Option Nat) (a3 : Int32) (t0 : Int32) (t1 : Int32) : Option (Int32) :=
  (some ((t0 + t1))).bind fun x1 =>
  K4 a0 a1 x1 (a3 + 1)
theorem vX2_weight_p51 {h : aH} {K4 : (Option Nat) → (Option Nat) → Int32 → Int32 → Option (Int32)} {a0 : Option Nat} {a1 : Option Nat} {a3 : Int32} {t0 : Int32} {t1 : Int32} {q : Int32} (X : aX p l R s m meth c D n0 s0 yX2_weight cX2_weight 3 64 4 (some .int) h0) (k4 : ∀ (a0 : Option Nat) (a1 : Option Nat) (a2 : Int32) (a3 : Int32) (q : Int32), K4 a0 a1 a2 a3 = some q → V p l e R s m args below meth c D n0 s0 (aEnd D below args s h0 (.inr (some (.int q)), h)) h 4 [(0, false, va_rf a0), (1, false, va_rf a1), (2, false, .int a2), (3, false, .int a3)] []) (hf : fX2_weight_p51 D h K4 a0 a1 a3 t0 t1 = some q) : V p l e R s m args below meth c D n0 s0 (aEnd D below args s h0 (.inr (some (.int q)), h)) h 51 [(0, false, va_rf a0), (1, false, va_rf a1), (3, false, .int a3)] [.int t1, .int t0] := by
  have C := X.1
  unfold fX2_weight_p51 at hf
  refine v_iadd (pc := 51) C dX2_weight_51 ?_
  obtain ⟨x1, ex1, hf⟩ := oB hf
  refine vst (Option.some.inj ex1) (fun z => .int z :: []) ?_
  refine v_istore_n (pc := 52) (lv' := [(2, false, .int x1), (0, false, va_rf a0), (1, false, va_rf a1), (3, false, .int a3)]) C dX2_weight_52 rfl (by decide) rfl ?_
  refine v_iinc (pc := 53) (j := 3) (v := (a3 + 1)) (lv' := [(3, false, .int (a3 + 1)), (2, false, .int x1), (0, false, va_rf a0), (1, false, va_rf a1)]) C dX2_weight_53 rfl rfl (by decide) rfl ?_
  refine v_goto (pc := 56) (tgt := 4) C dX2_weight_56 rfl ?_
  exact V.sub [2, 3, 1, 0] rfl (k4 _ _ _ _ _ hf)
def fX2_weight_p4 (D : aD) (h : aH) : Nat → (Option Nat) → (Option Nat) → Int32 → Int32 → Option (Int32)
  | 0, _, _, _, _ => none
  | n + 1, a0, a1, a2, a3 =>
  (gR h 1 13 a0).bind fun x1 =>
  (aIs h 15 x1).bind fun _ =>
  (fJ2_size D h x1).bind fun x3 =>
  if x3 ≤ a3 then
  (some a2)
  else
  ((gR h 9 4 a1).bind fun x5 =>
  (eZ h x5 a3).bind fun x6 =>
  if x6 = 0 then
  (fX2_weight_p51 D h (fX2_weight_p4 D h n) a0 a1 a3 a2 (0 : Int32))
  else
  ((gR h 9 5 a1).bind fun x7 =>
  (eZ h x7 a3).bind fun x8 =>
  if x8 = 0 then
  (fX2_weight_p51 D h (fX2_weight_p4 D h n) a0 a1 a3 a2 (0 : Int32))
  else
  ((gR h 1 13 a0).bind fun x9 =>
  (aIs h 15 x9).bind fun _ =>
  (fJ2_get D h x9 a3).bind fun x11 =>
  (aCast h [100] x11).bind fun _ =>
  (eI h x11 (3 : Int32)).bind fun x14 =>
  fX2_weight_p51 D h (fX2_weight_p4 D h n) a0 a1 a3 a2 x14)))
theorem vX2_weight_p4 {h : aH} (X : aX p l R s m meth c D n0 s0 yX2_weight cX2_weight 3 64 4 (some .int) h0) : ∀ (n : Nat) (a0 : Option Nat) (a1 : Option Nat) (a2 : Int32) (a3 : Int32) (q : Int32), fX2_weight_p4 D h n a0 a1 a2 a3 = some q → V p l e R s m args below meth c D n0 s0 (aEnd D below args s h0 (.inr (some (.int q)), h)) h 4 [(0, false, va_rf a0), (1, false, va_rf a1), (2, false, .int a2), (3, false, .int a3)] [] := by
  have C := X.1
  intro n
  induction n with
  | zero =>
    intro _ _ _ _ _ hf
    rw [fX2_weight_p4] at hf
    cases hf
  | succ n ih =>
    intro a0 a1 a2 a3 q hf
    rw [fX2_weight_p4] at hf
    refine v_iload_n (pc := 4) (j := 3) C dX2_weight_4 rfl rfl ?_
    refine v_aload_n (pc := 5) (j := 0) C dX2_weight_5 rfl rfl ?_
    obtain ⟨x1, ex1, hf⟩ := oB hf
    refine v_getF (pc := 6) C lk_X2_47 (gR_eq ex1) dX2_weight_6 ?_
    obtain ⟨b2, eb2, hf⟩ := oB hf
    obtain ⟨rb2, _, kb2⟩ := aIs_eq eb2
    obtain ⟨x3, ex3, hf⟩ := oB hf
    refine v_call (pc := 9) (d_V (pc := 9) C (As := []) (rest := [.int a3]) rb2 kb2 nt_15 q2502 yi_J2_size_java_util_ArrayList yk_J2_size rfl (by decide) (by decide) (Nat.le_trans (aw_i aw_0) (by decide)) rfl (mJ2_size C.st ex3) dX2_weight_9) ?_
    refine v_icmp_ge (pc := 12) (tgt := 59) C dX2_weight_12 rfl (fun hc => ?_) (fun hc => ?_)
    · rw [if_pos hc] at hf
      refine v_iload_n (pc := 59) (j := 2) C dX2_weight_59 rfl rfl ?_
      cases hf
      exact v_ireturn (pc := 60) C X.2.1 X.2.2.1 X.2.2.2.1 rfl dX2_weight_60
    · rw [if_neg hc] at hf
      refine v_iload_n (pc := 15) (j := 2) C dX2_weight_15 rfl rfl ?_
      refine v_aload_n (pc := 16) (j := 1) C dX2_weight_16 rfl rfl ?_
      obtain ⟨x5, ex5, hf⟩ := oB hf
      refine v_getF (pc := 17) C lk_X2_189 (gR_eq ex5) dX2_weight_17 ?_
      refine v_iload_n (pc := 20) (j := 3) C dX2_weight_20 rfl rfl ?_
      obtain ⟨x6, ex6, hf⟩ := oB hf
      refine v_baload (pc := 21) C ex6 dX2_weight_21 ?_
      refine v_if_eq (pc := 22) (tgt := 50) C dX2_weight_22 rfl (fun hc => ?_) (fun hc => ?_)
      · rw [if_pos hc] at hf
        refine v_iconst (pc := 50) (v := (0 : Int32)) C dX2_weight_50 rfl ?_
        exact V.sub [0, 1, 3] rfl (vX2_weight_p51 X ih hf)
      · rw [if_neg hc] at hf
        refine v_aload_n (pc := 25) (j := 1) C dX2_weight_25 rfl rfl ?_
        obtain ⟨x7, ex7, hf⟩ := oB hf
        refine v_getF (pc := 26) C lk_X2_193 (gR_eq ex7) dX2_weight_26 ?_
        refine v_iload_n (pc := 29) (j := 3) C dX2_weight_29 rfl rfl ?_
        obtain ⟨x8, ex8, hf⟩ := oB hf
        refine v_baload (pc := 30) C ex8 dX2_weight_30 ?_
        refine v_if_eq (pc := 31) (tgt := 50) C dX2_weight_31 rfl (fun hc => ?_) (fun hc => ?_)
        · rw [if_pos hc] at hf
          refine v_iconst (pc := 50) (v := (0 : Int32)) C dX2_weight_50 rfl ?_
          exact V.sub [0, 1, 3] rfl (vX2_weight_p51 X ih hf)
        · rw [if_neg hc] at hf
          refine v_aload_n (pc := 34) (j := 0) C dX2_weight_34 rfl rfl ?_
          obtain ⟨x9, ex9, hf⟩ := oB hf
          refine v_getF (pc := 35) C lk_X2_47 (gR_eq ex9) dX2_weight_35 ?_
          refine v_iload_n (pc := 38) (j := 3) C dX2_weight_38 rfl rfl ?_
          obtain ⟨b10, eb10, hf⟩ := oB hf
          obtain ⟨rb10, _, kb10⟩ := aIs_eq eb10
          obtain ⟨x11, ex11, hf⟩ := oB hf
          refine v_call (pc := 39) (d_V (pc := 39) C (As := [.int a3]) (rest := [.int a2]) rb10 kb10 nt_15 q2520 yi_J2_get_java_util_ArrayList yk_J2_get rfl (by decide) (by decide) (Nat.le_trans (aw_i aw_0) (by decide)) rfl (mJ2_get C.st ex11) dX2_weight_39) ?_
          obtain ⟨_, e13, hf⟩ := oB hf
          refine v_cast (pc := 42) C q2521 ct__I e13 dX2_weight_42 ?_
          refine v_iconst (pc := 45) (v := (3 : Int32)) C dX2_weight_45 rfl ?_
          obtain ⟨x14, ex14, hf⟩ := oB hf
          refine v_iaload (pc := 46) C ex14 dX2_weight_46 ?_
          refine v_goto (pc := 47) (tgt := 51) C dX2_weight_47 rfl ?_
          exact V.sub [0, 1, 3] rfl (vX2_weight_p51 X ih hf)
def fX2_weight (D : aD) (h : aH) (a0 : Option Nat) (a1 : Option Nat) : Option (Int32) :=
  fX2_weight_p4 D h FU a0 a1 (0 : Int32) (0 : Int32)
theorem vX2_weight {h : aH} {a0 : Option Nat} {a1 : Option Nat} {q : Int32} (X : aX p l R s m meth c D n0 s0 yX2_weight cX2_weight 3 64 4 (some .int) h0) (hf : fX2_weight D h a0 a1 = some q) : V p l e R s m args below meth c D n0 s0 (aEnd D below args s h0 (.inr (some (.int q)), h)) h 0 [(0, false, va_rf a0), (1, false, va_rf a1)] [] := by
  have C := X.1
  unfold fX2_weight at hf
  refine v_iconst (pc := 0) (v := (0 : Int32)) C dX2_weight_0 rfl ?_
  refine v_istore_n (pc := 1) (lv' := [(2, false, .int (0 : Int32)), (0, false, va_rf a0), (1, false, va_rf a1)]) C dX2_weight_1 rfl (by decide) rfl ?_
  refine v_iconst (pc := 2) (v := (0 : Int32)) C dX2_weight_2 rfl ?_
  refine v_istore_n (pc := 3) (lv' := [(3, false, .int (0 : Int32)), (2, false, .int (0 : Int32)), (0, false, va_rf a0), (1, false, va_rf a1)]) C dX2_weight_3 rfl (by decide) rfl ?_
  exact V.sub [2, 3, 1, 0] rfl (vX2_weight_p4 X _ _ _ _ _ _ hf)
theorem mX2_weight {l : Launch} {D : aD} {h : aH} {a0 : Option Nat} {a1 : Option Nat} {q : Int32} (hst : l.stackTraces = false) (hf : fX2_weight D h a0 a1 = some q) : aM l D yX2_weight cX2_weight 4 (some .int) 3 64 [va_rf a0, va_rf a1] h (.inr (some (.int q)), h) :=
  aM.ofX [(false, va_rf a0), (false, va_rf a1)] rfl (ap_r (ap_r ap_0)) (by decide +kernel) hst (al_of (aw_r (aw_r aw_0)) (by decide)) fun p e s m args below meth c X => V.sub (lv' := [(0, false, va_rf a0), (1, false, va_rf a1)]) [0, 1] rfl (vX2_weight X hf)
def fX2_brokenWeight (D : aD) (h : aH) (a0 : Option Nat) (a1 : Int32) : Option (Int32 × aH) :=
  (pF D h 1 0 a0 (.int (0 : Int32))).bind fun h1 =>
  (aIs h1 1 a0).bind fun _ =>
  (fX2_noPanel D h1 a0 a1).bind fun x3 =>
  if x3 = 0 then
  ((aMk D h1 (9, dfX10)).bind fun h5 =>
  (fX10_init D h5 (some h1.1) a0 a1).bind fun h8 =>
  (aIs h8 1 a0).bind fun _ =>
  (fX2_weight D h8 a0 (some h1.1)).bind fun x10 =>
  some (x10, h8))
  else
  ((aIs h1 1 a0).bind fun _ =>
  bnd2 (fX2_err D h1 a0 (1 : Int32)) fun x13 h14 =>
  some (x13, h14))
theorem vX2_brokenWeight {h : aH} {a0 : Option Nat} {a1 : Int32} {q : Int32} {g : aH} (X : aX p l R s m meth c D n0 s0 yX2_brokenWeight cX2_brokenWeight 8 190 2 (some .int) h0) (hf : fX2_brokenWeight D h a0 a1 = some (q, g)) : V p l e R s m args below meth c D n0 s0 (aEnd D below args s h0 (.inr (some (.int q)), g)) h 0 [(0, false, va_rf a0), (1, false, .int a1)] [] := by
  have C := X.1
  unfold fX2_brokenWeight at hf
  refine v_aload_n (pc := 0) (j := 0) C dX2_brokenWeight_0 rfl rfl ?_
  refine v_iconst (pc := 1) (v := (0 : Int32)) C dX2_brokenWeight_1 rfl ?_
  obtain ⟨h1, eh1, hf⟩ := oB hf
  refine v_putF (pc := 2) C lk_X2_69 tyX2 tyX2_ok nmX2 (tyX2_ok 0 (by decide)) rfl rfl eh1 dX2_brokenWeight_2 ?_
  refine v_aload_n (pc := 5) (j := 0) C dX2_brokenWeight_5 rfl rfl ?_
  refine v_iload_n (pc := 6) (j := 1) C dX2_brokenWeight_6 rfl rfl ?_
  obtain ⟨b2, eb2, hf⟩ := oB hf
  obtain ⟨rb2, _, kb2⟩ := aIs_eq eb2
  obtain ⟨x3, ex3, hf⟩ := oB hf
  refine v_call (pc := 7) (d_V (pc := 7) C (As := [.int a1]) (rest := []) rb2 kb2 nt_1 q2508 yi_X2_noPanel_FigureSurveyModel yk_X2_noPanel rfl (by decide) (by decide) (Nat.le_trans aw_0 (by decide)) rfl (mX2_noPanel C.st ex3) dX2_brokenWeight_7) ?_
  refine v_if_eq (pc := 10) (tgt := 21) C dX2_brokenWeight_10 rfl (fun hc => ?_) (fun hc => ?_)
  · rw [if_pos hc] at hf
    refine v_aload_n (pc := 21) (j := 0) C dX2_brokenWeight_21 rfl rfl ?_
    obtain ⟨h5, eh5, hf⟩ := oB hf
    refine v_new (pc := 22) (t := 9) (fs := dfX10) (T := TX10) (N := 8) C rfl in_X10 tyX10 tyX10_ok q2682 q2683 q121 dfX10_ok rfl eh5 dX2_brokenWeight_22 ?_
    refine v_dup (pc := 25) C dX2_brokenWeight_25 (va_rfc _) ?_
    refine v_aload_n (pc := 26) (j := 0) C dX2_brokenWeight_26 rfl rfl ?_
    refine v_iload_n (pc := 27) (j := 1) C dX2_brokenWeight_27 rfl rfl ?_
    obtain ⟨h8, ex7, hf⟩ := oB hf
    refine v_callU (pc := 28) (d_I (pc := 28) C (As := [va_rf a0, .int a1]) (rest := [va_rf (some h1.1), va_rf a0]) rfl rfl rfl q2684 q2685 yk_X10_init rfl (by decide) (by decide) (Nat.le_trans (aw_r (aw_r aw_0)) (by decide)) rfl (mX10_init C.st ex7) dX2_brokenWeight_28) ?_
    obtain ⟨b9, eb9, hf⟩ := oB hf
    obtain ⟨rb9, _, kb9⟩ := aIs_eq eb9
    obtain ⟨x10, ex10, hf⟩ := oB hf
    refine v_call (pc := 31) (d_V (pc := 31) C (As := [va_rf (some h1.1)]) (rest := []) rb9 kb9 nt_1 q2766 yi_X2_weight_FigureSurveyModel yk_X2_weight rfl (by decide) (by decide) (Nat.le_trans aw_0 (by decide)) rfl (mX2_weight C.st ex10) dX2_brokenWeight_31) ?_
    cases hf
    exact v_ireturn (pc := 34) C X.2.1 X.2.2.1 X.2.2.2.1 rfl dX2_brokenWeight_34
  · rw [if_neg hc] at hf
    refine v_aload_n (pc := 13) (j := 0) C dX2_brokenWeight_13 rfl rfl ?_
    refine v_iconst (pc := 14) (v := (1 : Int32)) C dX2_brokenWeight_14 rfl ?_
    obtain ⟨b12, eb12, hf⟩ := oB hf
    obtain ⟨rb12, _, kb12⟩ := aIs_eq eb12
    obtain ⟨x13, h14, ex13, hf⟩ := bnd2_eq hf
    refine v_call (pc := 15) (d_V (pc := 15) C (As := [.int (1 : Int32)]) (rest := []) rb12 kb12 nt_1 q2498 yi_X2_err_FigureSurveyModel yk_X2_err rfl (by decide) (by decide) (Nat.le_trans aw_0 (by decide)) rfl (mX2_err C.st ex13) dX2_brokenWeight_15) ?_
    refine v_goto (pc := 18) (tgt := 34) C dX2_brokenWeight_18 rfl ?_
    cases hf
    exact v_ireturn (pc := 34) C X.2.1 X.2.2.1 X.2.2.2.1 rfl dX2_brokenWeight_34
theorem mX2_brokenWeight {l : Launch} {D : aD} {h : aH} {a0 : Option Nat} {a1 : Int32} {q : Int32} {g : aH} (hst : l.stackTraces = false) (hf : fX2_brokenWeight D h a0 a1 = some (q, g)) : aM l D yX2_brokenWeight cX2_brokenWeight 2 (some .int) 8 190 [va_rf a0, .int a1] h (.inr (some (.int q)), g) :=
  aM.ofX [(false, va_rf a0), (false, .int a1)] rfl (ap_r (ap_c rfl ap_0)) (by decide +kernel) hst (al_of (aw_r (aw_i aw_0)) (by decide)) fun p e s m args below meth c X => V.sub (lv' := [(0, false, va_rf a0), (1, false, .int a1)]) [0, 1] rfl (vX2_brokenWeight X hf)
def fX2_isAbove_p21 (D : aD) (h : aH) (a0 : Option Nat) : Option (Int32 × aH) :=
  (aIs h 1 a0).bind fun _ =>
  bnd2 (fX2_err D h a0 (1 : Int32)) fun x2 h3 =>
  if x2 ≤ 0 then
  (some ((0 : Int32), h3))
  else
  (some ((1 : Int32), h3))
theorem vX2_isAbove_p21 {h : aH} {a0 : Option Nat} {q : Int32} {g : aH} (X : aX p l R s m meth c D n0 s0 yX2_isAbove cX2_isAbove 8 190 6 (some .boolean) h0) (hf : fX2_isAbove_p21 D h a0 = some (q, g)) : V p l e R s m args below meth c D n0 s0 (aEnd D below args s h0 (.inr (some (.int q)), g)) h 21 [(0, false, va_rf a0)] [] := by
  have C := X.1
  unfold fX2_isAbove_p21 at hf
  refine v_aload_n (pc := 21) (j := 0) C dX2_isAbove_21 rfl rfl ?_
  refine v_iconst (pc := 22) (v := (1 : Int32)) C dX2_isAbove_22 rfl ?_
  obtain ⟨b1, eb1, hf⟩ := oB hf
  obtain ⟨rb1, _, kb1⟩ := aIs_eq eb1
  obtain ⟨x2, h3, ex2, hf⟩ := bnd2_eq hf
  refine v_call (pc := 23) (d_V (pc := 23) C (As := [.int (1 : Int32)]) (rest := []) rb1 kb1 nt_1 q2498 yi_X2_err_FigureSurveyModel yk_X2_err rfl (by decide) (by decide) (Nat.le_trans aw_0 (by decide)) rfl (mX2_err C.st ex2) dX2_isAbove_23) ?_
  refine v_if_le (pc := 26) (tgt := 33) C dX2_isAbove_26 rfl (fun hc => ?_) (fun hc => ?_)
  · rw [if_pos hc] at hf
    refine v_iconst (pc := 33) (v := (0 : Int32)) C dX2_isAbove_33 rfl ?_
    cases hf
    exact v_zreturn (pc := 34) C X.2.1 X.2.2.1 X.2.2.2.1 (by decide) rfl dX2_isAbove_34
  · rw [if_neg hc] at hf
    refine v_iconst (pc := 29) (v := (1 : Int32)) C dX2_isAbove_29 rfl ?_
    refine v_goto (pc := 30) (tgt := 34) C dX2_isAbove_30 rfl ?_
    cases hf
    exact v_zreturn (pc := 34) C X.2.1 X.2.2.1 X.2.2.2.1 (by decide) rfl dX2_isAbove_34
def fX2_isAbove (D : aD) (h : aH) (a0 : Option Nat) (a1 : Int32) (a2 : Int32) : Option (Int32 × aH) :=
  (pF D h 1 0 a0 (.int (0 : Int32))).bind fun h1 =>
  (aIs h1 1 a0).bind fun _ =>
  (fX2_noFigure D h1 a0 a1).bind fun x3 =>
  if x3 = 0 then
  ((aIs h1 1 a0).bind fun _ =>
  (fX2_noFigure D h1 a0 a2).bind fun x6 =>
  if x6 = 0 then
  ((aMk D h1 (9, dfX10)).bind fun h8 =>
  (aIs h8 1 a0).bind fun _ =>
  (fX2_panelOf D h8 a0 a1).bind fun x10 =>
  (fX10_init D h8 (some h1.1) a0 x10).bind fun h14 =>
  (aIs h14 9 (some h1.1)).bind fun _ =>
  (fX10_place D h14 (some h1.1) a1).bind fun x16 =>
  (aIs h14 9 (some h1.1)).bind fun _ =>
  (fX10_place D h14 (some h1.1) a2).bind fun x19 =>
  if x16 < 0 then
  (some ((0 : Int32), h14))
  else
  (if x19 < 0 then
  (some ((0 : Int32), h14))
  else
  ((gR h14 9 6 (some h1.1)).bind fun x21 =>
  (eR h14 x21 x16).bind fun x22 =>
  (eZ h14 x22 x19).bind fun x23 =>
  if x23 = 0 then
  (some ((0 : Int32), h14))
  else
  (some ((1 : Int32), h14)))))
  else
  (fX2_isAbove_p21 D h1 a0))
  else
  (fX2_isAbove_p21 D h1 a0)
theorem vX2_isAbove {h : aH} {a0 : Option Nat} {a1 : Int32} {a2 : Int32} {q : Int32} {g : aH} (X : aX p l R s m meth c D n0 s0 yX2_isAbove cX2_isAbove 8 190 6 (some .boolean) h0) (hf : fX2_isAbove D h a0 a1 a2 = some (q, g)) : V p l e R s m args below meth c D n0 s0 (aEnd D below args s h0 (.inr (some (.int q)), g)) h 0 [(0, false, va_rf a0), (1, false, .int a1), (2, false, .int a2)] [] := by
  have C := X.1
  unfold fX2_isAbove at hf
  refine v_aload_n (pc := 0) (j := 0) C dX2_isAbove_0 rfl rfl ?_
  refine v_iconst (pc := 1) (v := (0 : Int32)) C dX2_isAbove_1 rfl ?_
  obtain ⟨h1, eh1, hf⟩ := oB hf
  refine v_putF (pc := 2) C lk_X2_69 tyX2 tyX2_ok nmX2 (tyX2_ok 0 (by decide)) rfl rfl eh1 dX2_isAbove_2 ?_
  refine v_aload_n (pc := 5) (j := 0) C dX2_isAbove_5 rfl rfl ?_
  refine v_iload_n (pc := 6) (j := 1) C dX2_isAbove_6 rfl rfl ?_
  obtain ⟨b2, eb2, hf⟩ := oB hf
  obtain ⟨rb2, _, kb2⟩ := aIs_eq eb2
  obtain ⟨x3, ex3, hf⟩ := oB hf
  refine v_call (pc := 7) (d_V (pc := 7) C (As := [.int a1]) (rest := []) rb2 kb2 nt_1 q2560 yi_X2_noFigure_FigureSurveyModel yk_X2_noFigure rfl (by decide) (by decide) (Nat.le_trans aw_0 (by decide)) rfl (mX2_noFigure C.st ex3) dX2_isAbove_7) ?_
  refine v_if_ne (pc := 10) (tgt := 21) C dX2_isAbove_10 rfl (fun hc => ?_) (fun hc => ?_)
  · rw [if_neg hc] at hf
    exact V.sub [0] rfl (vX2_isAbove_p21 X hf)
  · rw [if_pos (Decidable.of_not_not hc)] at hf
    refine v_aload_n (pc := 13) (j := 0) C dX2_isAbove_13 rfl rfl ?_
    refine v_iload_n (pc := 14) (j := 2) C dX2_isAbove_14 rfl rfl ?_
    obtain ⟨b5, eb5, hf⟩ := oB hf
    obtain ⟨rb5, _, kb5⟩ := aIs_eq eb5
    obtain ⟨x6, ex6, hf⟩ := oB hf
    refine v_call (pc := 15) (d_V (pc := 15) C (As := [.int a2]) (rest := []) rb5 kb5 nt_1 q2560 yi_X2_noFigure_FigureSurveyModel yk_X2_noFigure rfl (by decide) (by decide) (Nat.le_trans aw_0 (by decide)) rfl (mX2_noFigure C.st ex6) dX2_isAbove_15) ?_
    refine v_if_eq (pc := 18) (tgt := 35) C dX2_isAbove_18 rfl (fun hc => ?_) (fun hc => ?_)
    · rw [if_pos hc] at hf
      obtain ⟨h8, eh8, hf⟩ := oB hf
      refine v_new (pc := 35) (t := 9) (fs := dfX10) (T := TX10) (N := 8) C rfl in_X10 tyX10 tyX10_ok q2682 q2683 q121 dfX10_ok rfl eh8 dX2_isAbove_35 ?_
      refine v_dup (pc := 38) C dX2_isAbove_38 (va_rfc _) ?_
      refine v_aload_n (pc := 39) (j := 0) C dX2_isAbove_39 rfl rfl ?_
      refine v_aload_n (pc := 40) (j := 0) C dX2_isAbove_40 rfl rfl ?_
      refine v_iload_n (pc := 41) (j := 1) C dX2_isAbove_41 rfl rfl ?_
      obtain ⟨b9, eb9, hf⟩ := oB hf
      obtain ⟨rb9, _, kb9⟩ := aIs_eq eb9
      obtain ⟨x10, ex10, hf⟩ := oB hf
      refine v_call (pc := 42) (d_V (pc := 42) C (As := [.int a1]) (rest := [va_rf a0, va_rf (some h1.1), va_rf (some h1.1)]) rb9 kb9 nt_1 q2552 yi_X2_panelOf_FigureSurveyModel yk_X2_panelOf rfl (by decide) (by decide) (Nat.le_trans (aw_r (aw_r (aw_r aw_0))) (by decide)) rfl (mX2_panelOf C.st ex10) dX2_isAbove_42) ?_
      obtain ⟨h14, ex13, hf⟩ := oB hf
      refine v_callU (pc := 45) (d_I (pc := 45) C (As := [va_rf a0, .int x10]) (rest := [va_rf (some h1.1)]) rfl rfl rfl q2684 q2685 yk_X10_init rfl (by decide) (by decide) (Nat.le_trans (aw_r aw_0) (by decide)) rfl (mX10_init C.st ex13) dX2_isAbove_45) ?_
      refine v_astore_n (pc := 48) (lv' := [(3, false, va_rf (some h1.1)), (0, false, va_rf a0), (1, false, .int a1), (2, false, .int a2)]) C dX2_isAbove_48 rfl (by decide) rfl ?_
      refine v_aload_n (pc := 49) (j := 0) C dX2_isAbove_49 rfl rfl ?_
      refine v_iload_n (pc := 50) (j := 2) C dX2_isAbove_50 rfl rfl ?_
      obtain ⟨b15, eb15, hf⟩ := oB hf
      obtain ⟨rb15, _, kb15⟩ := aIs_eq eb15
      obtain ⟨x16, ex16, hf⟩ := oB hf
      refine v_call (pc := 51) (d_V (pc := 51) C (As := [.int a1]) (rest := []) rb15 kb15 nt_9 q2774 yi_X10_place_FigureSurveyModel_Found yk_X10_place rfl (by decide) (by decide) (Nat.le_trans aw_0 (by decide)) rfl (mX10_place C.st ex16) dX2_isAbove_51) ?_
      refine v_istore (pc := 54) (lv' := [(4, false, .int x16), (3, false, va_rf (some h1.1)), (0, false, va_rf a0), (1, false, .int a1), (2, false, .int a2)]) C dX2_isAbove_54 (by decide) rfl ?_
      refine v_aload_n (pc := 56) (j := 1) C dX2_isAbove_56 rfl rfl ?_
      refine v_iload_n (pc := 57) (j := 4) C dX2_isAbove_57 rfl rfl ?_
      obtain ⟨b18, eb18, hf⟩ := oB hf
      obtain ⟨rb18, _, kb18⟩ := aIs_eq eb18
      obtain ⟨x19, ex19, hf⟩ := oB hf
      refine v_call (pc := 58) (d_V (pc := 58) C (As := [.int a2]) (rest := []) rb18 kb18 nt_9 q2774 yi_X10_place_FigureSurveyModel_Found yk_X10_place rfl (by decide) (by decide) (Nat.le_trans aw_0 (by decide)) rfl (mX10_place C.st ex19) dX2_isAbove_58) ?_
      refine v_istore (pc := 61) (lv' := [(5, false, .int x19), (4, false, .int x16), (3, false, va_rf (some h1.1)), (0, false, va_rf a0), (1, false, .int a1), (2, false, .int a2)]) C dX2_isAbove_61 (by decide) rfl ?_
      refine v_iload (pc := 63) (j := 1) C dX2_isAbove_63 rfl ?_
      refine v_if_lt (pc := 65) (tgt := 90) C dX2_isAbove_65 rfl (fun hc => ?_) (fun hc => ?_)
      · rw [if_pos hc] at hf
        refine v_iconst (pc := 90) (v := (0 : Int32)) C dX2_isAbove_90 rfl ?_
        cases hf
        exact v_zreturn (pc := 91) C X.2.1 X.2.2.1 X.2.2.2.1 (by decide) rfl dX2_isAbove_91
      · rw [if_neg hc] at hf
        refine v_iload (pc := 68) (j := 0) C dX2_isAbove_68 rfl ?_
        refine v_if_lt (pc := 70) (tgt := 90) C dX2_isAbove_70 rfl (fun hc => ?_) (fun hc => ?_)
        · rw [if_pos hc] at hf
          refine v_iconst (pc := 90) (v := (0 : Int32)) C dX2_isAbove_90 rfl ?_
          cases hf
          exact v_zreturn (pc := 91) C X.2.1 X.2.2.1 X.2.2.2.1 (by decide) rfl dX2_isAbove_91
        · rw [if_neg hc] at hf
          refine v_aload_n (pc := 73) (j := 2) C dX2_isAbove_73 rfl rfl ?_
          obtain ⟨x21, ex21, hf⟩ := oB hf
          refine v_getF (pc := 74) C lk_X2_213 (gR_eq ex21) dX2_isAbove_74 ?_
          refine v_iload (pc := 77) (j := 1) C dX2_isAbove_77 rfl ?_
          obtain ⟨x22, ex22, hf⟩ := oB hf
          refine v_aaload (pc := 79) C ex22 dX2_isAbove_79 ?_
          refine v_iload (pc := 80) (j := 0) C dX2_isAbove_80 rfl ?_
          obtain ⟨x23, ex23, hf⟩ := oB hf
          refine v_baload (pc := 82) C ex23 dX2_isAbove_82 ?_
          refine v_if_eq (pc := 83) (tgt := 90) C dX2_isAbove_83 rfl (fun hc => ?_) (fun hc => ?_)
          · rw [if_pos hc] at hf
            refine v_iconst (pc := 90) (v := (0 : Int32)) C dX2_isAbove_90 rfl ?_
            cases hf
            exact v_zreturn (pc := 91) C X.2.1 X.2.2.1 X.2.2.2.1 (by decide) rfl dX2_isAbove_91
          · rw [if_neg hc] at hf
            refine v_iconst (pc := 86) (v := (1 : Int32)) C dX2_isAbove_86 rfl ?_
            refine v_goto (pc := 87) (tgt := 91) C dX2_isAbove_87 rfl ?_
            cases hf
            exact v_zreturn (pc := 91) C X.2.1 X.2.2.1 X.2.2.2.1 (by decide) rfl dX2_isAbove_91
    · rw [if_neg hc] at hf
      exact V.sub [0] rfl (vX2_isAbove_p21 X hf)
theorem mX2_isAbove {l : Launch} {D : aD} {h : aH} {a0 : Option Nat} {a1 : Int32} {a2 : Int32} {q : Int32} {g : aH} (hst : l.stackTraces = false) (hf : fX2_isAbove D h a0 a1 a2 = some (q, g)) : aM l D yX2_isAbove cX2_isAbove 6 (some .boolean) 8 190 [va_rf a0, .int a1, .int a2] h (.inr (some (.int q)), g) :=
  aM.ofX [(false, va_rf a0), (false, .int a1), (false, .int a2)] rfl (ap_r (ap_c rfl (ap_c rfl ap_0))) (by decide +kernel) hst (al_of (aw_r (aw_i (aw_i aw_0))) (by decide)) fun p e s m args below meth c X => V.sub (lv' := [(0, false, va_rf a0), (1, false, .int a1), (2, false, .int a2)]) [0, 1, 2] rfl (vX2_isAbove X hf)
def fX10_reason_p188 (D : aD) (h : aH) (K12 : (Option Nat) → Int32 → Int32 → Int32 → Int32 → Option (Int32)) (a0 : Option Nat) (a2 : Int32) (a3 : Int32) (a4 : Int32) (a5 : Int32) : Option (Int32) :=
  K12 a0 a2 a3 a4 (a5 + 1)
theorem vX10_reason_p188 {h : aH} {K12 : (Option Nat) → Int32 → Int32 → Int32 → Int32 → Option (Int32)} {a0 : Option Nat} {a2 : Int32} {a3 : Int32} {a4 : Int32} {a5 : Int32} {q : Int32} (X : aX p l R s m meth c D n0 s0 yX10_reason cX10_reason 4 86 8 (some .int) h0) (k12 : ∀ (a0 : Option Nat) (a2 : Int32) (a3 : Int32) (a4 : Int32) (a5 : Int32) (q : Int32), K12 a0 a2 a3 a4 a5 = some q → V p l e R s m args below meth c D n0 s0 (aEnd D below args s h0 (.inr (some (.int q)), h)) h 12 [(0, false, va_rf a0), (2, false, .int a2), (3, false, .int a3), (4, false, .int a4), (5, false, .int a5)] []) (hf : fX10_reason_p188 D h K12 a0 a2 a3 a4 a5 = some q) : V p l e R s m args below meth c D n0 s0 (aEnd D below args s h0 (.inr (some (.int q)), h)) h 188 [(0, false, va_rf a0), (2, false, .int a2), (3, false, .int a3), (4, false, .int a4), (5, false, .int a5)] [] := by
  have C := X.1
  unfold fX10_reason_p188 at hf
  refine v_iinc (pc := 188) (j := 4) (v := (a5 + 1)) (lv' := [(5, false, .int (a5 + 1)), (0, false, va_rf a0), (2, false, .int a2), (3, false, .int a3), (4, false, .int a4)]) C dX10_reason_188 rfl rfl (by decide) rfl ?_
  refine v_goto (pc := 191) (tgt := 12) C dX10_reason_191 rfl ?_
  exact V.sub [1, 2, 3, 4, 0] rfl (k12 _ _ _ _ _ _ hf)
def fX10_reason_p184 (D : aD) (h : aH) (K12 : (Option Nat) → Int32 → Int32 → Int32 → Int32 → Option (Int32)) (a0 : Option Nat) (a2 : Int32) (a3 : Int32) (a5 : Int32) : Option (Int32) :=
  fX10_reason_p188 D h K12 a0 a2 a3 a5 a5
theorem vX10_reason_p184 {h : aH} {K12 : (Option Nat) → Int32 → Int32 → Int32 → Int32 → Option (Int32)} {a0 : Option Nat} {a2 : Int32} {a3 : Int32} {a5 : Int32} {q : Int32} (X : aX p l R s m meth c D n0 s0 yX10_reason cX10_reason 4 86 8 (some .int) h0) (k12 : ∀ (a0 : Option Nat) (a2 : Int32) (a3 : Int32) (a4 : Int32) (a5 : Int32) (q : Int32), K12 a0 a2 a3 a4 a5 = some q → V p l e R s m args below meth c D n0 s0 (aEnd D below args s h0 (.inr (some (.int q)), h)) h 12 [(0, false, va_rf a0), (2, false, .int a2), (3, false, .int a3), (4, false, .int a4), (5, false, .int a5)] []) (hf : fX10_reason_p184 D h K12 a0 a2 a3 a5 = some q) : V p l e R s m args below meth c D n0 s0 (aEnd D below args s h0 (.inr (some (.int q)), h)) h 184 [(0, false, va_rf a0), (2, false, .int a2), (3, false, .int a3), (5, false, .int a5)] [] := by
  have C := X.1
  unfold fX10_reason_p184 at hf
  refine v_iload (pc := 184) (j := 3) C dX10_reason_184 rfl ?_
  refine v_istore (pc := 186) (lv' := [(4, false, .int a5), (0, false, va_rf a0), (2, false, .int a2), (3, false, .int a3), (5, false, .int a5)]) C dX10_reason_186 (by decide) rfl ?_
  exact V.sub [1, 2, 3, 0, 4] rfl (vX10_reason_p188 X k12 hf)
def fX10_reason_p141 (D : aD) (h : aH) (K12 : (Option Nat) → Int32 → Int32 → Int32 → Int32 → Option (Int32)) (a0 : Option Nat) (a2 : Int32) (a3 : Int32) (a4 : Int32) (a5 : Int32) : Option (Int32) :=
  if a4 = (-1 : Int32) then
  (fX10_reason_p184 D h K12 a0 a2 a3 a5)
  else
  (if a2 = 0 then
  ((aIs h 9 a0).bind fun _ =>
  (fX10_bound D h a0 a5).bind fun x2 =>
  (aIs h 9 a0).bind fun _ =>
  (fX10_bound D h a0 a4).bind fun x5 =>
  if x2 ≤ x5 then
  (fX10_reason_p188 D h K12 a0 a2 a3 a4 a5)
  else
  (fX10_reason_p184 D h K12 a0 a2 a3 a5))
  else
  ((aIs h 9 a0).bind fun _ =>
  (fX10_bound D h a0 a5).bind fun x8 =>
  (aIs h 9 a0).bind fun _ =>
  (fX10_bound D h a0 a4).bind fun x11 =>
  if x11 ≤ x8 then
  (fX10_reason_p188 D h K12 a0 a2 a3 a4 a5)
  else
  (fX10_reason_p184 D h K12 a0 a2 a3 a5)))
theorem vX10_reason_p141 {h : aH} {K12 : (Option Nat) → Int32 → Int32 → Int32 → Int32 → Option (Int32)} {a0 : Option Nat} {a2 : Int32} {a3 : Int32} {a4 : Int32} {a5 : Int32} {q : Int32} (X : aX p l R s m meth c D n0 s0 yX10_reason cX10_reason 4 86 8 (some .int) h0) (k12 : ∀ (a0 : Option Nat) (a2 : Int32) (a3 : Int32) (a4 : Int32) (a5 : Int32) (q : Int32), K12 a0 a2 a3 a4 a5 = some q → V p l e R s m args below meth c D n0 s0 (aEnd D below args s h0 (.inr (some (.int q)), h)) h 12 [(0, false, va_rf a0), (2, false, .int a2), (3, false, .int a3), (4, false, .int a4), (5, false, .int a5)] []) (hf : fX10_reason_p141 D h K12 a0 a2 a3 a4 a5 = some q) : V p l e R s m args below meth c D n0 s0 (aEnd D below args s h0 (.inr (some (.int q)), h)) h 141 [(0, false, va_rf a0), (2, false, .int a2), (3, false, .int a3), (4, false, .int a4), (5, false, .int a5)] [] := by
  have C := X.1
  unfold fX10_reason_p141 at hf
  refine v_iload (pc := 141) (j := 3) C dX10_reason_141 rfl ?_
  refine v_iconst (pc := 143) (v := (-1 : Int32)) C dX10_reason_143 rfl ?_
  refine v_icmp_eq (pc := 144) (tgt := 184) C dX10_reason_144 rfl (fun hc => ?_) (fun hc => ?_)
  · rw [if_pos hc] at hf
    exact V.sub [0, 1, 2, 4] rfl (vX10_reason_p184 X k12 hf)
  · rw [if_neg hc] at hf
    refine v_iload_n (pc := 147) (j := 1) C dX10_reason_147 rfl rfl ?_
    refine v_if_eq (pc := 148) (tgt := 169) C dX10_reason_148 rfl (fun hc => ?_) (fun hc => ?_)
    · rw [if_pos hc] at hf
      refine v_aload_n (pc := 169) (j := 0) C dX10_reason_169 rfl rfl ?_
      refine v_iload (pc := 170) (j := 4) C dX10_reason_170 rfl ?_
      obtain ⟨b1, eb1, hf⟩ := oB hf
      obtain ⟨rb1, _, kb1⟩ := aIs_eq eb1
      obtain ⟨x2, ex2, hf⟩ := oB hf
      refine v_call (pc := 172) (d_V (pc := 172) C (As := [.int a5]) (rest := []) rb1 kb1 nt_9 q2720 yi_X10_bound_FigureSurveyModel_Found yk_X10_bound rfl (by decide) (by decide) (Nat.le_trans aw_0 (by decide)) rfl (mX10_bound C.st ex2) dX10_reason_172) ?_
      refine v_aload_n (pc := 175) (j := 0) C dX10_reason_175 rfl rfl ?_
      refine v_iload (pc := 176) (j := 3) C dX10_reason_176 rfl ?_
      obtain ⟨b4, eb4, hf⟩ := oB hf
      obtain ⟨rb4, _, kb4⟩ := aIs_eq eb4
      obtain ⟨x5, ex5, hf⟩ := oB hf
      refine v_call (pc := 178) (d_V (pc := 178) C (As := [.int a4]) (rest := [.int x2]) rb4 kb4 nt_9 q2720 yi_X10_bound_FigureSurveyModel_Found yk_X10_bound rfl (by decide) (by decide) (Nat.le_trans (aw_i aw_0) (by decide)) rfl (mX10_bound C.st ex5) dX10_reason_178) ?_
      refine v_icmp_le (pc := 181) (tgt := 188) C dX10_reason_181 rfl (fun hc => ?_) (fun hc => ?_)
      · rw [if_pos hc] at hf
        exact V.sub [0, 1, 2, 3, 4] rfl (vX10_reason_p188 X k12 hf)
      · rw [if_neg hc] at hf
        exact V.sub [0, 1, 2, 4] rfl (vX10_reason_p184 X k12 hf)
    · rw [if_neg hc] at hf
      refine v_aload_n (pc := 151) (j := 0) C dX10_reason_151 rfl rfl ?_
      refine v_iload (pc := 152) (j := 4) C dX10_reason_152 rfl ?_
      obtain ⟨b7, eb7, hf⟩ := oB hf
      obtain ⟨rb7, _, kb7⟩ := aIs_eq eb7
      obtain ⟨x8, ex8, hf⟩ := oB hf
      refine v_call (pc := 154) (d_V (pc := 154) C (As := [.int a5]) (rest := []) rb7 kb7 nt_9 q2720 yi_X10_bound_FigureSurveyModel_Found yk_X10_bound rfl (by decide) (by decide) (Nat.le_trans aw_0 (by decide)) rfl (mX10_bound C.st ex8) dX10_reason_154) ?_
      refine v_aload_n (pc := 157) (j := 0) C dX10_reason_157 rfl rfl ?_
      refine v_iload (pc := 158) (j := 3) C dX10_reason_158 rfl ?_
      obtain ⟨b10, eb10, hf⟩ := oB hf
      obtain ⟨rb10, _, kb10⟩ := aIs_eq eb10
      obtain ⟨x11, ex11, hf⟩ := oB hf
      refine v_call (pc := 160) (d_V (pc := 160) C (As := [.int a4]) (rest := [.int x8]) rb10 kb10 nt_9 q2720 yi_X10_bound_FigureSurveyModel_Found yk_X10_bound rfl (by decide) (by decide) (Nat.le_trans (aw_i aw_0) (by decide)) rfl (mX10_bound C.st ex11) dX10_reason_160) ?_
      refine v_icmp_ge (pc := 163) (tgt := 188) C dX10_reason_163 rfl (fun hc => ?_) (fun hc => ?_)
      · rw [if_pos hc] at hf
        exact V.sub [0, 1, 2, 3, 4] rfl (vX10_reason_p188 X k12 hf)
      · rw [if_neg hc] at hf
        refine v_goto (pc := 166) (tgt := 184) C dX10_reason_166 rfl ?_
        exact V.sub [0, 1, 2, 4] rfl (vX10_reason_p184 X k12 hf)
def fX10_reason_p84 (D : aD) (h : aH) (K12 : (Option Nat) → Int32 → Int32 → Int32 → Int32 → Option (Int32)) (a0 : Option Nat) (a2 : Int32) (a3 : Int32) (a4 : Int32) (a5 : Int32) (a6 : Option Nat) (t0 : Int32) : Option (Int32) :=
  if t0 = a2 then
  (fX10_reason_p188 D h K12 a0 a2 a3 a4 a5)
  else
  ((eI h a6 (1 : Int32)).bind fun x1 =>
  (aIs h 9 a0).bind fun _ =>
  (fX10_place D h a0 x1).bind fun x3 =>
  if x3 = a3 then
  (fX10_reason_p141 D h K12 a0 a2 a3 a4 a5)
  else
  (if a2 = 0 then
  ((gR h 9 6 a0).bind fun x5 =>
  (eR h x5 a3).bind fun x6 =>
  (eZ h x6 x3).bind fun x7 =>
  if x7 = 0 then
  (fX10_reason_p188 D h K12 a0 a2 a3 a4 a5)
  else
  (fX10_reason_p141 D h K12 a0 a2 a3 a4 a5))
  else
  ((gR h 9 6 a0).bind fun x8 =>
  (eR h x8 x3).bind fun x9 =>
  (eZ h x9 a3).bind fun x10 =>
  if x10 = 0 then
  (fX10_reason_p188 D h K12 a0 a2 a3 a4 a5)
  else
  (fX10_reason_p141 D h K12 a0 a2 a3 a4 a5))))
theorem vX10_reason_p84 {h : aH} {K12 : (Option Nat) → Int32 → Int32 → Int32 → Int32 → Option (Int32)} {a0 : Option Nat} {a2 : Int32} {a3 : Int32} {a4 : Int32} {a5 : Int32} {a6 : Option Nat} {t0 : Int32} {q : Int32} (X : aX p l R s m meth c D n0 s0 yX10_reason cX10_reason 4 86 8 (some .int) h0) (k12 : ∀ (a0 : Option Nat) (a2 : Int32) (a3 : Int32) (a4 : Int32) (a5 : Int32) (q : Int32), K12 a0 a2 a3 a4 a5 = some q → V p l e R s m args below meth c D n0 s0 (aEnd D below args s h0 (.inr (some (.int q)), h)) h 12 [(0, false, va_rf a0), (2, false, .int a2), (3, false, .int a3), (4, false, .int a4), (5, false, .int a5)] []) (hf : fX10_reason_p84 D h K12 a0 a2 a3 a4 a5 a6 t0 = some q) : V p l e R s m args below meth c D n0 s0 (aEnd D below args s h0 (.inr (some (.int q)), h)) h 84 [(0, false, va_rf a0), (2, false, .int a2), (3, false, .int a3), (4, false, .int a4), (5, false, .int a5), (6, false, va_rf a6)] [.int t0] := by
  have C := X.1
  unfold fX10_reason_p84 at hf
  refine v_iload_n (pc := 84) (j := 1) C dX10_reason_84 rfl rfl ?_
  refine v_icmp_ne (pc := 85) (tgt := 91) C dX10_reason_85 rfl (fun hc => ?_) (fun hc => ?_)
  · rw [if_neg hc] at hf
    refine v_aload_n (pc := 91) (j := 0) C dX10_reason_91 rfl rfl ?_
    refine v_aload (pc := 92) (j := 5) C dX10_reason_92 rfl ?_
    refine v_iconst (pc := 94) (v := (1 : Int32)) C dX10_reason_94 rfl ?_
    obtain ⟨x1, ex1, hf⟩ := oB hf
    refine v_iaload (pc := 95) C ex1 dX10_reason_95 ?_
    obtain ⟨b2, eb2, hf⟩ := oB hf
    obtain ⟨rb2, _, kb2⟩ := aIs_eq eb2
    obtain ⟨x3, ex3, hf⟩ := oB hf
    refine v_call (pc := 96) (d_V (pc := 96) C (As := [.int x1]) (rest := []) rb2 kb2 nt_9 q2693 yi_X10_place_FigureSurveyModel_Found yk_X10_place rfl (by decide) (by decide) (Nat.le_trans aw_0 (by decide)) rfl (mX10_place C.st ex3) dX10_reason_96) ?_
    refine v_istore (pc := 99) (lv' := [(7, false, .int x3), (0, false, va_rf a0), (2, false, .int a2), (3, false, .int a3), (4, false, .int a4), (5, false, .int a5), (6, false, va_rf a6)]) C dX10_reason_99 (by decide) rfl ?_
    refine v_iload (pc := 101) (j := 0) C dX10_reason_101 rfl ?_
    refine v_iload_n (pc := 103) (j := 3) C dX10_reason_103 rfl rfl ?_
    refine v_icmp_eq (pc := 104) (tgt := 141) C dX10_reason_104 rfl (fun hc => ?_) (fun hc => ?_)
    · rw [if_pos hc] at hf
      exact V.sub [1, 2, 3, 4, 5] rfl (vX10_reason_p141 X k12 hf)
    · rw [if_neg hc] at hf
      refine v_iload_n (pc := 107) (j := 2) C dX10_reason_107 rfl rfl ?_
      refine v_if_eq (pc := 108) (tgt := 126) C dX10_reason_108 rfl (fun hc => ?_) (fun hc => ?_)
      · rw [if_pos hc] at hf
        refine v_aload_n (pc := 126) (j := 1) C dX10_reason_126 rfl rfl ?_
        obtain ⟨x5, ex5, hf⟩ := oB hf
        refine v_getF (pc := 127) C lk_X10_64 (gR_eq ex5) dX10_reason_127 ?_
        refine v_iload_n (pc := 130) (j := 3) C dX10_reason_130 rfl rfl ?_
        obtain ⟨x6, ex6, hf⟩ := oB hf
        refine v_aaload (pc := 131) C ex6 dX10_reason_131 ?_
        refine v_iload (pc := 132) (j := 0) C dX10_reason_132 rfl ?_
        obtain ⟨x7, ex7, hf⟩ := oB hf
        refine v_baload (pc := 134) C ex7 dX10_reason_134 ?_
        refine v_if_ne (pc := 135) (tgt := 141) C dX10_reason_135 rfl (fun hc => ?_) (fun hc => ?_)
        · rw [if_neg hc] at hf
          exact V.sub [1, 2, 3, 4, 5] rfl (vX10_reason_p141 X k12 hf)
        · rw [if_pos (Decidable.of_not_not hc)] at hf
          refine v_goto (pc := 138) (tgt := 188) C dX10_reason_138 rfl ?_
          exact V.sub [1, 2, 3, 4, 5] rfl (vX10_reason_p188 X k12 hf)
      · rw [if_neg hc] at hf
        refine v_aload_n (pc := 111) (j := 1) C dX10_reason_111 rfl rfl ?_
        obtain ⟨x8, ex8, hf⟩ := oB hf
        refine v_getF (pc := 112) C lk_X10_64 (gR_eq ex8) dX10_reason_112 ?_
        refine v_iload (pc := 115) (j := 0) C dX10_reason_115 rfl ?_
        obtain ⟨x9, ex9, hf⟩ := oB hf
        refine v_aaload (pc := 117) C ex9 dX10_reason_117 ?_
        refine v_iload_n (pc := 118) (j := 3) C dX10_reason_118 rfl rfl ?_
        obtain ⟨x10, ex10, hf⟩ := oB hf
        refine v_baload (pc := 119) C ex10 dX10_reason_119 ?_
        refine v_if_eq (pc := 120) (tgt := 188) C dX10_reason_120 rfl (fun hc => ?_) (fun hc => ?_)
        · rw [if_pos hc] at hf
          exact V.sub [1, 2, 3, 4, 5] rfl (vX10_reason_p188 X k12 hf)
        · rw [if_neg hc] at hf
          refine v_goto (pc := 123) (tgt := 141) C dX10_reason_123 rfl ?_
          exact V.sub [1, 2, 3, 4, 5] rfl (vX10_reason_p141 X k12 hf)
  · rw [if_pos (Decidable.of_not_not hc)] at hf
    refine v_goto (pc := 88) (tgt := 188) C dX10_reason_88 rfl ?_
    exact V.sub [0, 1, 2, 3, 4] rfl (vX10_reason_p188 X k12 hf)
def fX10_reason_p12 (D : aD) (h : aH) : Nat → (Option Nat) → Int32 → Int32 → Int32 → Int32 → Option (Int32)
  | 0, _, _, _, _, _ => none
  | n + 1, a0, a2, a3, a4, a5 =>
  (gR h 9 7 a0).bind fun x1 =>
  (gR h 1 13 x1).bind fun x2 =>
  (aIs h 15 x2).bind fun _ =>
  (fJ2_size D h x2).bind fun x4 =>
  if x4 ≤ a5 then
  (some a4)
  else
  ((gR h 9 7 a0).bind fun x6 =>
  (gR h 1 13 x6).bind fun x7 =>
  (aIs h 15 x7).bind fun _ =>
  (fJ2_get D h x7 a5).bind fun x9 =>
  (aCast h [100] x9).bind fun _ =>
  (gR h 9 4 a0).bind fun x12 =>
  (eZ h x12 a5).bind fun x13 =>
  if x13 = 0 then
  (fX10_reason_p188 D h (fX10_reason_p12 D h n) a0 a2 a3 a4 a5)
  else
  ((gR h 9 5 a0).bind fun x14 =>
  (eZ h x14 a5).bind fun x15 =>
  if x15 = 0 then
  ((eI h x9 (0 : Int32)).bind fun x16 =>
  if x16 = 0 then
  (fX10_reason_p188 D h (fX10_reason_p12 D h n) a0 a2 a3 a4 a5)
  else
  ((eI h x9 (0 : Int32)).bind fun x17 =>
  fX10_reason_p84 D h (fX10_reason_p12 D h n) a0 a2 a3 a4 a5 x9 (if x17 = (1 : Int32) then (1 : Int32) else (0 : Int32))))
  else
  (fX10_reason_p188 D h (fX10_reason_p12 D h n) a0 a2 a3 a4 a5)))
theorem vX10_reason_p12 {h : aH} (X : aX p l R s m meth c D n0 s0 yX10_reason cX10_reason 4 86 8 (some .int) h0) : ∀ (n : Nat) (a0 : Option Nat) (a2 : Int32) (a3 : Int32) (a4 : Int32) (a5 : Int32) (q : Int32), fX10_reason_p12 D h n a0 a2 a3 a4 a5 = some q → V p l e R s m args below meth c D n0 s0 (aEnd D below args s h0 (.inr (some (.int q)), h)) h 12 [(0, false, va_rf a0), (2, false, .int a2), (3, false, .int a3), (4, false, .int a4), (5, false, .int a5)] [] := by
  have C := X.1
  intro n
  induction n with
  | zero =>
    intro _ _ _ _ _ _ hf
    rw [fX10_reason_p12] at hf
    cases hf
  | succ n ih =>
    intro a0 a2 a3 a4 a5 q hf
    rw [fX10_reason_p12] at hf
    refine v_iload (pc := 12) (j := 4) C dX10_reason_12 rfl ?_
    refine v_aload_n (pc := 14) (j := 0) C dX10_reason_14 rfl rfl ?_
    obtain ⟨x1, ex1, hf⟩ := oB hf
    refine v_getF (pc := 15) C lk_X10_3 (gR_eq ex1) dX10_reason_15 ?_
    obtain ⟨x2, ex2, hf⟩ := oB hf
    refine v_getF (pc := 18) C lk_X10_21 (gR_eq ex2) dX10_reason_18 ?_
    obtain ⟨b3, eb3, hf⟩ := oB hf
    obtain ⟨rb3, _, kb3⟩ := aIs_eq eb3
    obtain ⟨x4, ex4, hf⟩ := oB hf
    refine v_call (pc := 21) (d_V (pc := 21) C (As := []) (rest := [.int a5]) rb3 kb3 nt_15 q2689 yi_J2_size_java_util_ArrayList yk_J2_size rfl (by decide) (by decide) (Nat.le_trans (aw_i aw_0) (by decide)) rfl (mJ2_size C.st ex4) dX10_reason_21) ?_
    refine v_icmp_ge (pc := 24) (tgt := 194) C dX10_reason_24 rfl (fun hc => ?_) (fun hc => ?_)
    · rw [if_pos hc] at hf
      refine v_iload (pc := 194) (j := 3) C dX10_reason_194 rfl ?_
      cases hf
      exact v_ireturn (pc := 196) C X.2.1 X.2.2.1 X.2.2.2.1 rfl dX10_reason_196
    · rw [if_neg hc] at hf
      refine v_aload_n (pc := 27) (j := 0) C dX10_reason_27 rfl rfl ?_
      obtain ⟨x6, ex6, hf⟩ := oB hf
      refine v_getF (pc := 28) C lk_X10_3 (gR_eq ex6) dX10_reason_28 ?_
      obtain ⟨x7, ex7, hf⟩ := oB hf
      refine v_getF (pc := 31) C lk_X10_21 (gR_eq ex7) dX10_reason_31 ?_
      refine v_iload (pc := 34) (j := 4) C dX10_reason_34 rfl ?_
      obtain ⟨b8, eb8, hf⟩ := oB hf
      obtain ⟨rb8, _, kb8⟩ := aIs_eq eb8
      obtain ⟨x9, ex9, hf⟩ := oB hf
      refine v_call (pc := 36) (d_V (pc := 36) C (As := [.int a5]) (rest := []) rb8 kb8 nt_15 q2692 yi_J2_get_java_util_ArrayList yk_J2_get rfl (by decide) (by decide) (Nat.le_trans aw_0 (by decide)) rfl (mJ2_get C.st ex9) dX10_reason_36) ?_
      obtain ⟨_, e11, hf⟩ := oB hf
      refine v_cast (pc := 39) C q2688 ct__I e11 dX10_reason_39 ?_
      refine v_astore (pc := 42) (lv' := [(6, false, va_rf x9), (0, false, va_rf a0), (2, false, .int a2), (3, false, .int a3), (4, false, .int a4), (5, false, .int a5)]) C dX10_reason_42 (by decide) rfl ?_
      refine v_aload_n (pc := 44) (j := 1) C dX10_reason_44 rfl rfl ?_
      obtain ⟨x12, ex12, hf⟩ := oB hf
      refine v_getF (pc := 45) C lk_X10_31 (gR_eq ex12) dX10_reason_45 ?_
      refine v_iload (pc := 48) (j := 5) C dX10_reason_48 rfl ?_
      obtain ⟨x13, ex13, hf⟩ := oB hf
      refine v_baload (pc := 50) C ex13 dX10_reason_50 ?_
      refine v_if_eq (pc := 51) (tgt := 188) C dX10_reason_51 rfl (fun hc => ?_) (fun hc => ?_)
      · rw [if_pos hc] at hf
        exact V.sub [1, 2, 3, 4, 5] rfl (vX10_reason_p188 X ih hf)
      · rw [if_neg hc] at hf
        refine v_aload_n (pc := 54) (j := 1) C dX10_reason_54 rfl rfl ?_
        obtain ⟨x14, ex14, hf⟩ := oB hf
        refine v_getF (pc := 55) C lk_X10_35 (gR_eq ex14) dX10_reason_55 ?_
        refine v_iload (pc := 58) (j := 5) C dX10_reason_58 rfl ?_
        obtain ⟨x15, ex15, hf⟩ := oB hf
        refine v_baload (pc := 60) C ex15 dX10_reason_60 ?_
        refine v_if_ne (pc := 61) (tgt := 188) C dX10_reason_61 rfl (fun hc => ?_) (fun hc => ?_)
        · rw [if_neg hc] at hf
          exact V.sub [1, 2, 3, 4, 5] rfl (vX10_reason_p188 X ih hf)
        · rw [if_pos (Decidable.of_not_not hc)] at hf
          refine v_aload (pc := 64) (j := 0) C dX10_reason_64 rfl ?_
          refine v_iconst (pc := 66) (v := (0 : Int32)) C dX10_reason_66 rfl ?_
          obtain ⟨x16, ex16, hf⟩ := oB hf
          refine v_iaload (pc := 67) C ex16 dX10_reason_67 ?_
          refine v_if_eq (pc := 68) (tgt := 188) C dX10_reason_68 rfl (fun hc => ?_) (fun hc => ?_)
          · rw [if_pos hc] at hf
            exact V.sub [1, 2, 3, 4, 5] rfl (vX10_reason_p188 X ih hf)
          · rw [if_neg hc] at hf
            refine v_aload (pc := 71) (j := 0) C dX10_reason_71 rfl ?_
            refine v_iconst (pc := 73) (v := (0 : Int32)) C dX10_reason_73 rfl ?_
            obtain ⟨x17, ex17, hf⟩ := oB hf
            refine v_iaload (pc := 74) C ex17 dX10_reason_74 ?_
            refine v_iconst (pc := 75) (v := (1 : Int32)) C dX10_reason_75 rfl ?_
            refine v_icmp_ne (pc := 76) (tgt := 83) C dX10_reason_76 rfl (fun hc => ?_) (fun hc => ?_)
            · simp only [if_neg hc] at hf
              refine v_iconst (pc := 83) (v := (0 : Int32)) C dX10_reason_83 rfl ?_
              exact V.sub [1, 2, 3, 4, 5, 0] rfl (vX10_reason_p84 X ih hf)
            · simp only [if_pos (Decidable.of_not_not hc)] at hf
              refine v_iconst (pc := 79) (v := (1 : Int32)) C dX10_reason_79 rfl ?_
              refine v_goto (pc := 80) (tgt := 84) C dX10_reason_80 rfl ?_
              exact V.sub [1, 2, 3, 4, 5, 0] rfl (vX10_reason_p84 X ih hf)
def fX10_reason (D : aD) (h : aH) (a0 : Option Nat) (a1 : Int32) (a2 : Int32) : Option (Int32) :=
  (aIs h 9 a0).bind fun _ =>
  (fX10_place D h a0 a1).bind fun x2 =>
  fX10_reason_p12 D h FU a0 a2 x2 (-1 : Int32) (0 : Int32)
theorem vX10_reason {h : aH} {a0 : Option Nat} {a1 : Int32} {a2 : Int32} {q : Int32} (X : aX p l R s m meth c D n0 s0 yX10_reason cX10_reason 4 86 8 (some .int) h0) (hf : fX10_reason D h a0 a1 a2 = some q) : V p l e R s m args below meth c D n0 s0 (aEnd D below args s h0 (.inr (some (.int q)), h)) h 0 [(0, false, va_rf a0), (1, false, .int a1), (2, false, .int a2)] [] := by
  have C := X.1
  unfold fX10_reason at hf
  refine v_aload_n (pc := 0) (j := 0) C dX10_reason_0 rfl rfl ?_
  refine v_iload_n (pc := 1) (j := 1) C dX10_reason_1 rfl rfl ?_
  obtain ⟨b1, eb1, hf⟩ := oB hf
  obtain ⟨rb1, _, kb1⟩ := aIs_eq eb1
  obtain ⟨x2, ex2, hf⟩ := oB hf
  refine v_call (pc := 2) (d_V (pc := 2) C (As := [.int a1]) (rest := []) rb1 kb1 nt_9 q2693 yi_X10_place_FigureSurveyModel_Found yk_X10_place rfl (by decide) (by decide) (Nat.le_trans aw_0 (by decide)) rfl (mX10_place C.st ex2) dX10_reason_2) ?_
  refine v_istore_n (pc := 5) (lv' := [(3, false, .int x2), (0, false, va_rf a0), (1, false, .int a1), (2, false, .int a2)]) C dX10_reason_5 rfl (by decide) rfl ?_
  refine v_iconst (pc := 6) (v := (-1 : Int32)) C dX10_reason_6 rfl ?_
  refine v_istore (pc := 7) (lv' := [(4, false, .int (-1 : Int32)), (3, false, .int x2), (0, false, va_rf a0), (1, false, .int a1), (2, false, .int a2)]) C dX10_reason_7 (by decide) rfl ?_
  refine v_iconst (pc := 9) (v := (0 : Int32)) C dX10_reason_9 rfl ?_
  refine v_istore (pc := 10) (lv' := [(5, false, .int (0 : Int32)), (4, false, .int (-1 : Int32)), (3, false, .int x2), (0, false, va_rf a0), (1, false, .int a1), (2, false, .int a2)]) C dX10_reason_10 (by decide) rfl ?_
  exact V.sub [3, 5, 2, 1, 0] rfl (vX10_reason_p12 X _ _ _ _ _ _ _ hf)
theorem mX10_reason {l : Launch} {D : aD} {h : aH} {a0 : Option Nat} {a1 : Int32} {a2 : Int32} {q : Int32} (hst : l.stackTraces = false) (hf : fX10_reason D h a0 a1 a2 = some q) : aM l D yX10_reason cX10_reason 8 (some .int) 4 86 [va_rf a0, .int a1, .int a2] h (.inr (some (.int q)), h) :=
  aM.ofX [(false, va_rf a0), (false, .int a1), (false, .int a2)] rfl (ap_r (ap_c rfl (ap_c rfl ap_0))) (by decide +kernel) hst (al_of (aw_r (aw_i (aw_i aw_0))) (by decide)) fun p e s m args below meth c X => V.sub (lv' := [(0, false, va_rf a0), (1, false, .int a1), (2, false, .int a2)]) [0, 1, 2] rfl (vX10_reason X hf)
def fX2_yearOf_p18 (D : aD) (h : aH) (a1 : Option Nat) (a3 : Int32) (t0 : Int32) : Option (Int32) :=
  if t0 = (-1 : Int32) then
  (if a3 = 0 then
  (some (0 : Int32))
  else
  (some (30000 : Int32)))
  else
  ((aIs h 9 a1).bind fun _ =>
  (fX10_bound D h a1 t0).bind fun x2 =>
  some x2)
theorem vX2_yearOf_p18 {h : aH} {a1 : Option Nat} {a3 : Int32} {t0 : Int32} {q : Int32} (X : aX p l R s m meth c D n0 s0 yX2_yearOf cX2_yearOf 5 113 5 (some .int) h0) (hf : fX2_yearOf_p18 D h a1 a3 t0 = some q) : V p l e R s m args below meth c D n0 s0 (aEnd D below args s h0 (.inr (some (.int q)), h)) h 18 [(1, false, va_rf a1), (3, false, .int a3)] [.int t0] := by
  have C := X.1
  unfold fX2_yearOf_p18 at hf
  refine v_istore (pc := 18) (lv' := [(4, false, .int t0), (1, false, va_rf a1), (3, false, .int a3)]) C dX2_yearOf_18 (by decide) rfl ?_
  refine v_iload (pc := 20) (j := 0) C dX2_yearOf_20 rfl ?_
  refine v_iconst (pc := 22) (v := (-1 : Int32)) C dX2_yearOf_22 rfl ?_
  refine v_icmp_ne (pc := 23) (tgt := 40) C dX2_yearOf_23 rfl (fun hc => ?_) (fun hc => ?_)
  · rw [if_neg hc] at hf
    refine v_aload_n (pc := 40) (j := 1) C dX2_yearOf_40 rfl rfl ?_
    refine v_iload (pc := 41) (j := 0) C dX2_yearOf_41 rfl ?_
    obtain ⟨b1, eb1, hf⟩ := oB hf
    obtain ⟨rb1, _, kb1⟩ := aIs_eq eb1
    obtain ⟨x2, ex2, hf⟩ := oB hf
    refine v_call (pc := 43) (d_V (pc := 43) C (As := [.int t0]) (rest := []) rb1 kb1 nt_9 q2787 yi_X10_bound_FigureSurveyModel_Found yk_X10_bound rfl (by decide) (by decide) (Nat.le_trans aw_0 (by decide)) rfl (mX10_bound C.st ex2) dX2_yearOf_43) ?_
    cases hf
    exact v_ireturn (pc := 46) C X.2.1 X.2.2.1 X.2.2.2.1 rfl dX2_yearOf_46
  · rw [if_pos (Decidable.of_not_not hc)] at hf
    refine v_iload_n (pc := 26) (j := 2) C dX2_yearOf_26 rfl rfl ?_
    refine v_if_eq (pc := 27) (tgt := 36) C dX2_yearOf_27 rfl (fun hc => ?_) (fun hc => ?_)
    · rw [if_pos hc] at hf
      refine v_iconst (pc := 36) (v := (0 : Int32)) C dX2_yearOf_36 rfl ?_
      refine v_goto (pc := 37) (tgt := 46) C dX2_yearOf_37 rfl ?_
      cases hf
      exact v_ireturn (pc := 46) C X.2.1 X.2.2.1 X.2.2.2.1 rfl dX2_yearOf_46
    · rw [if_neg hc] at hf
      refine v_sipush (pc := 30) (v := (30000 : Int32)) C dX2_yearOf_30 rfl ?_
      refine v_goto (pc := 33) (tgt := 46) C dX2_yearOf_33 rfl ?_
      cases hf
      exact v_ireturn (pc := 46) C X.2.1 X.2.2.1 X.2.2.2.1 rfl dX2_yearOf_46
def fX2_yearOf (D : aD) (h : aH) (a0 : Option Nat) (a1 : Option Nat) (a2 : Int32) (a3 : Int32) : Option (Int32) :=
  (aIs h 9 a1).bind fun _ =>
  (fX10_place D h a1 a2).bind fun x2 =>
  if 0 ≤ x2 then
  ((aIs h 9 a1).bind fun _ =>
  (fX10_reason D h a1 a2 a3).bind fun x5 =>
  fX2_yearOf_p18 D h a1 a3 x5)
  else
  (fX2_yearOf_p18 D h a1 a3 (-1 : Int32))
theorem vX2_yearOf {h : aH} {a0 : Option Nat} {a1 : Option Nat} {a2 : Int32} {a3 : Int32} {q : Int32} (X : aX p l R s m meth c D n0 s0 yX2_yearOf cX2_yearOf 5 113 5 (some .int) h0) (hf : fX2_yearOf D h a0 a1 a2 a3 = some q) : V p l e R s m args below meth c D n0 s0 (aEnd D below args s h0 (.inr (some (.int q)), h)) h 0 [(0, false, va_rf a0), (1, false, va_rf a1), (2, false, .int a2), (3, false, .int a3)] [] := by
  have C := X.1
  unfold fX2_yearOf at hf
  refine v_aload_n (pc := 0) (j := 1) C dX2_yearOf_0 rfl rfl ?_
  refine v_iload_n (pc := 1) (j := 2) C dX2_yearOf_1 rfl rfl ?_
  obtain ⟨b1, eb1, hf⟩ := oB hf
  obtain ⟨rb1, _, kb1⟩ := aIs_eq eb1
  obtain ⟨x2, ex2, hf⟩ := oB hf
  refine v_call (pc := 2) (d_V (pc := 2) C (As := [.int a2]) (rest := []) rb1 kb1 nt_9 q2774 yi_X10_place_FigureSurveyModel_Found yk_X10_place rfl (by decide) (by decide) (Nat.le_trans aw_0 (by decide)) rfl (mX10_place C.st ex2) dX2_yearOf_2) ?_
  refine v_if_ge (pc := 5) (tgt := 12) C dX2_yearOf_5 rfl (fun hc => ?_) (fun hc => ?_)
  · rw [if_pos hc] at hf
    refine v_aload_n (pc := 12) (j := 1) C dX2_yearOf_12 rfl rfl ?_
    refine v_iload_n (pc := 13) (j := 2) C dX2_yearOf_13 rfl rfl ?_
    refine v_iload_n (pc := 14) (j := 3) C dX2_yearOf_14 rfl rfl ?_
    obtain ⟨b4, eb4, hf⟩ := oB hf
    obtain ⟨rb4, _, kb4⟩ := aIs_eq eb4
    obtain ⟨x5, ex5, hf⟩ := oB hf
    refine v_call (pc := 15) (d_V (pc := 15) C (As := [.int a2, .int a3]) (rest := []) rb4 kb4 nt_9 q2783 yi_X10_reason_FigureSurveyModel_Found yk_X10_reason rfl (by decide) (by decide) (Nat.le_trans aw_0 (by decide)) rfl (mX10_reason C.st ex5) dX2_yearOf_15) ?_
    exact V.sub [1, 3] rfl (vX2_yearOf_p18 X hf)
  · rw [if_neg hc] at hf
    refine v_iconst (pc := 8) (v := (-1 : Int32)) C dX2_yearOf_8 rfl ?_
    refine v_goto (pc := 9) (tgt := 18) C dX2_yearOf_9 rfl ?_
    exact V.sub [1, 3] rfl (vX2_yearOf_p18 X hf)
theorem mX2_yearOf {l : Launch} {D : aD} {h : aH} {a0 : Option Nat} {a1 : Option Nat} {a2 : Int32} {a3 : Int32} {q : Int32} (hst : l.stackTraces = false) (hf : fX2_yearOf D h a0 a1 a2 a3 = some q) : aM l D yX2_yearOf cX2_yearOf 5 (some .int) 5 113 [va_rf a0, va_rf a1, .int a2, .int a3] h (.inr (some (.int q)), h) :=
  aM.ofX [(false, va_rf a0), (false, va_rf a1), (false, .int a2), (false, .int a3)] rfl (ap_r (ap_r (ap_c rfl (ap_c rfl ap_0)))) (by decide +kernel) hst (al_of (aw_r (aw_r (aw_i (aw_i aw_0)))) (by decide)) fun p e s m args below meth c X => V.sub (lv' := [(0, false, va_rf a0), (1, false, va_rf a1), (2, false, .int a2), (3, false, .int a3)]) [0, 1, 2, 3] rfl (vX2_yearOf X hf)
def fX2_earliest (D : aD) (h : aH) (a0 : Option Nat) (a1 : Int32) : Option (Int32 × aH) :=
  (pF D h 1 0 a0 (.int (0 : Int32))).bind fun h1 =>
  (aIs h1 1 a0).bind fun _ =>
  (fX2_noFigure D h1 a0 a1).bind fun x3 =>
  if x3 = 0 then
  ((aMk D h1 (9, dfX10)).bind fun h5 =>
  (aIs h5 1 a0).bind fun _ =>
  (fX2_panelOf D h5 a0 a1).bind fun x7 =>
  (fX10_init D h5 (some h1.1) a0 x7).bind fun h11 =>
  (aIs h11 1 a0).bind fun _ =>
  (fX2_yearOf D h11 a0 (some h1.1) a1 (0 : Int32)).bind fun x13 =>
  some (x13, h11))
  else
  ((aIs h1 1 a0).bind fun _ =>
  bnd2 (fX2_err D h1 a0 (1 : Int32)) fun x16 h17 =>
  some (x16, h17))
theorem vX2_earliest {h : aH} {a0 : Option Nat} {a1 : Int32} {q : Int32} {g : aH} (X : aX p l R s m meth c D n0 s0 yX2_earliest cX2_earliest 8 190 2 (some .int) h0) (hf : fX2_earliest D h a0 a1 = some (q, g)) : V p l e R s m args below meth c D n0 s0 (aEnd D below args s h0 (.inr (some (.int q)), g)) h 0 [(0, false, va_rf a0), (1, false, .int a1)] [] := by
  have C := X.1
  unfold fX2_earliest at hf
  refine v_aload_n (pc := 0) (j := 0) C dX2_earliest_0 rfl rfl ?_
  refine v_iconst (pc := 1) (v := (0 : Int32)) C dX2_earliest_1 rfl ?_
  obtain ⟨h1, eh1, hf⟩ := oB hf
  refine v_putF (pc := 2) C lk_X2_69 tyX2 tyX2_ok nmX2 (tyX2_ok 0 (by decide)) rfl rfl eh1 dX2_earliest_2 ?_
  refine v_aload_n (pc := 5) (j := 0) C dX2_earliest_5 rfl rfl ?_
  refine v_iload_n (pc := 6) (j := 1) C dX2_earliest_6 rfl rfl ?_
  obtain ⟨b2, eb2, hf⟩ := oB hf
  obtain ⟨rb2, _, kb2⟩ := aIs_eq eb2
  obtain ⟨x3, ex3, hf⟩ := oB hf
  refine v_call (pc := 7) (d_V (pc := 7) C (As := [.int a1]) (rest := []) rb2 kb2 nt_1 q2560 yi_X2_noFigure_FigureSurveyModel yk_X2_noFigure rfl (by decide) (by decide) (Nat.le_trans aw_0 (by decide)) rfl (mX2_noFigure C.st ex3) dX2_earliest_7) ?_
  refine v_if_eq (pc := 10) (tgt := 21) C dX2_earliest_10 rfl (fun hc => ?_) (fun hc => ?_)
  · rw [if_pos hc] at hf
    refine v_aload_n (pc := 21) (j := 0) C dX2_earliest_21 rfl rfl ?_
    obtain ⟨h5, eh5, hf⟩ := oB hf
    refine v_new (pc := 22) (t := 9) (fs := dfX10) (T := TX10) (N := 8) C rfl in_X10 tyX10 tyX10_ok q2682 q2683 q121 dfX10_ok rfl eh5 dX2_earliest_22 ?_
    refine v_dup (pc := 25) C dX2_earliest_25 (va_rfc _) ?_
    refine v_aload_n (pc := 26) (j := 0) C dX2_earliest_26 rfl rfl ?_
    refine v_aload_n (pc := 27) (j := 0) C dX2_earliest_27 rfl rfl ?_
    refine v_iload_n (pc := 28) (j := 1) C dX2_earliest_28 rfl rfl ?_
    obtain ⟨b6, eb6, hf⟩ := oB hf
    obtain ⟨rb6, _, kb6⟩ := aIs_eq eb6
    obtain ⟨x7, ex7, hf⟩ := oB hf
    refine v_call (pc := 29) (d_V (pc := 29) C (As := [.int a1]) (rest := [va_rf a0, va_rf (some h1.1), va_rf (some h1.1), va_rf a0]) rb6 kb6 nt_1 q2552 yi_X2_panelOf_FigureSurveyModel yk_X2_panelOf rfl (by decide) (by decide) (Nat.le_trans (aw_r (aw_r (aw_r (aw_r aw_0)))) (by decide)) rfl (mX2_panelOf C.st ex7) dX2_earliest_29) ?_
    obtain ⟨h11, ex10, hf⟩ := oB hf
    refine v_callU (pc := 32) (d_I (pc := 32) C (As := [va_rf a0, .int x7]) (rest := [va_rf (some h1.1), va_rf a0]) rfl rfl rfl q2684 q2685 yk_X10_init rfl (by decide) (by decide) (Nat.le_trans (aw_r (aw_r aw_0)) (by decide)) rfl (mX10_init C.st ex10) dX2_earliest_32) ?_
    refine v_iload_n (pc := 35) (j := 1) C dX2_earliest_35 rfl rfl ?_
    refine v_iconst (pc := 36) (v := (0 : Int32)) C dX2_earliest_36 rfl ?_
    obtain ⟨b12, eb12, hf⟩ := oB hf
    obtain ⟨rb12, _, kb12⟩ := aIs_eq eb12
    obtain ⟨x13, ex13, hf⟩ := oB hf
    refine v_call (pc := 37) (d_V (pc := 37) C (As := [va_rf (some h1.1), .int a1, .int (0 : Int32)]) (rest := []) rb12 kb12 nt_1 q2779 yi_X2_yearOf_FigureSurveyModel yk_X2_yearOf rfl (by decide) (by decide) (Nat.le_trans aw_0 (by decide)) rfl (mX2_yearOf C.st ex13) dX2_earliest_37) ?_
    cases hf
    exact v_ireturn (pc := 40) C X.2.1 X.2.2.1 X.2.2.2.1 rfl dX2_earliest_40
  · rw [if_neg hc] at hf
    refine v_aload_n (pc := 13) (j := 0) C dX2_earliest_13 rfl rfl ?_
    refine v_iconst (pc := 14) (v := (1 : Int32)) C dX2_earliest_14 rfl ?_
    obtain ⟨b15, eb15, hf⟩ := oB hf
    obtain ⟨rb15, _, kb15⟩ := aIs_eq eb15
    obtain ⟨x16, h17, ex16, hf⟩ := bnd2_eq hf
    refine v_call (pc := 15) (d_V (pc := 15) C (As := [.int (1 : Int32)]) (rest := []) rb15 kb15 nt_1 q2498 yi_X2_err_FigureSurveyModel yk_X2_err rfl (by decide) (by decide) (Nat.le_trans aw_0 (by decide)) rfl (mX2_err C.st ex16) dX2_earliest_15) ?_
    refine v_goto (pc := 18) (tgt := 40) C dX2_earliest_18 rfl ?_
    cases hf
    exact v_ireturn (pc := 40) C X.2.1 X.2.2.1 X.2.2.2.1 rfl dX2_earliest_40
theorem mX2_earliest {l : Launch} {D : aD} {h : aH} {a0 : Option Nat} {a1 : Int32} {q : Int32} {g : aH} (hst : l.stackTraces = false) (hf : fX2_earliest D h a0 a1 = some (q, g)) : aM l D yX2_earliest cX2_earliest 2 (some .int) 8 190 [va_rf a0, .int a1] h (.inr (some (.int q)), g) :=
  aM.ofX [(false, va_rf a0), (false, .int a1)] rfl (ap_r (ap_c rfl ap_0)) (by decide +kernel) hst (al_of (aw_r (aw_i aw_0)) (by decide)) fun p e s m args below meth c X => V.sub (lv' := [(0, false, va_rf a0), (1, false, .int a1)]) [0, 1] rfl (vX2_earliest X hf)
def fX2_latest (D : aD) (h : aH) (a0 : Option Nat) (a1 : Int32) : Option (Int32 × aH) :=
  (pF D h 1 0 a0 (.int (0 : Int32))).bind fun h1 =>
  (aIs h1 1 a0).bind fun _ =>
  (fX2_noFigure D h1 a0 a1).bind fun x3 =>
  if x3 = 0 then
  ((aMk D h1 (9, dfX10)).bind fun h5 =>
  (aIs h5 1 a0).bind fun _ =>
  (fX2_panelOf D h5 a0 a1).bind fun x7 =>
  (fX10_init D h5 (some h1.1) a0 x7).bind fun h11 =>
  (aIs h11 1 a0).bind fun _ =>
  (fX2_yearOf D h11 a0 (some h1.1) a1 (1 : Int32)).bind fun x13 =>
  some (x13, h11))
  else
  ((aIs h1 1 a0).bind fun _ =>
  bnd2 (fX2_err D h1 a0 (1 : Int32)) fun x16 h17 =>
  some (x16, h17))
theorem vX2_latest {h : aH} {a0 : Option Nat} {a1 : Int32} {q : Int32} {g : aH} (X : aX p l R s m meth c D n0 s0 yX2_latest cX2_latest 8 190 2 (some .int) h0) (hf : fX2_latest D h a0 a1 = some (q, g)) : V p l e R s m args below meth c D n0 s0 (aEnd D below args s h0 (.inr (some (.int q)), g)) h 0 [(0, false, va_rf a0), (1, false, .int a1)] [] := by
  have C := X.1
  unfold fX2_latest at hf
  refine v_aload_n (pc := 0) (j := 0) C dX2_latest_0 rfl rfl ?_
  refine v_iconst (pc := 1) (v := (0 : Int32)) C dX2_latest_1 rfl ?_
  obtain ⟨h1, eh1, hf⟩ := oB hf
  refine v_putF (pc := 2) C lk_X2_69 tyX2 tyX2_ok nmX2 (tyX2_ok 0 (by decide)) rfl rfl eh1 dX2_latest_2 ?_
  refine v_aload_n (pc := 5) (j := 0) C dX2_latest_5 rfl rfl ?_
  refine v_iload_n (pc := 6) (j := 1) C dX2_latest_6 rfl rfl ?_
  obtain ⟨b2, eb2, hf⟩ := oB hf
  obtain ⟨rb2, _, kb2⟩ := aIs_eq eb2
  obtain ⟨x3, ex3, hf⟩ := oB hf
  refine v_call (pc := 7) (d_V (pc := 7) C (As := [.int a1]) (rest := []) rb2 kb2 nt_1 q2560 yi_X2_noFigure_FigureSurveyModel yk_X2_noFigure rfl (by decide) (by decide) (Nat.le_trans aw_0 (by decide)) rfl (mX2_noFigure C.st ex3) dX2_latest_7) ?_
  refine v_if_eq (pc := 10) (tgt := 21) C dX2_latest_10 rfl (fun hc => ?_) (fun hc => ?_)
  · rw [if_pos hc] at hf
    refine v_aload_n (pc := 21) (j := 0) C dX2_latest_21 rfl rfl ?_
    obtain ⟨h5, eh5, hf⟩ := oB hf
    refine v_new (pc := 22) (t := 9) (fs := dfX10) (T := TX10) (N := 8) C rfl in_X10 tyX10 tyX10_ok q2682 q2683 q121 dfX10_ok rfl eh5 dX2_latest_22 ?_
    refine v_dup (pc := 25) C dX2_latest_25 (va_rfc _) ?_
    refine v_aload_n (pc := 26) (j := 0) C dX2_latest_26 rfl rfl ?_
    refine v_aload_n (pc := 27) (j := 0) C dX2_latest_27 rfl rfl ?_
    refine v_iload_n (pc := 28) (j := 1) C dX2_latest_28 rfl rfl ?_
    obtain ⟨b6, eb6, hf⟩ := oB hf
    obtain ⟨rb6, _, kb6⟩ := aIs_eq eb6
    obtain ⟨x7, ex7, hf⟩ := oB hf
    refine v_call (pc := 29) (d_V (pc := 29) C (As := [.int a1]) (rest := [va_rf a0, va_rf (some h1.1), va_rf (some h1.1), va_rf a0]) rb6 kb6 nt_1 q2552 yi_X2_panelOf_FigureSurveyModel yk_X2_panelOf rfl (by decide) (by decide) (Nat.le_trans (aw_r (aw_r (aw_r (aw_r aw_0)))) (by decide)) rfl (mX2_panelOf C.st ex7) dX2_latest_29) ?_
    obtain ⟨h11, ex10, hf⟩ := oB hf
    refine v_callU (pc := 32) (d_I (pc := 32) C (As := [va_rf a0, .int x7]) (rest := [va_rf (some h1.1), va_rf a0]) rfl rfl rfl q2684 q2685 yk_X10_init rfl (by decide) (by decide) (Nat.le_trans (aw_r (aw_r aw_0)) (by decide)) rfl (mX10_init C.st ex10) dX2_latest_32) ?_
    refine v_iload_n (pc := 35) (j := 1) C dX2_latest_35 rfl rfl ?_
    refine v_iconst (pc := 36) (v := (1 : Int32)) C dX2_latest_36 rfl ?_
    obtain ⟨b12, eb12, hf⟩ := oB hf
    obtain ⟨rb12, _, kb12⟩ := aIs_eq eb12
    obtain ⟨x13, ex13, hf⟩ := oB hf
    refine v_call (pc := 37) (d_V (pc := 37) C (As := [va_rf (some h1.1), .int a1, .int (1 : Int32)]) (rest := []) rb12 kb12 nt_1 q2779 yi_X2_yearOf_FigureSurveyModel yk_X2_yearOf rfl (by decide) (by decide) (Nat.le_trans aw_0 (by decide)) rfl (mX2_yearOf C.st ex13) dX2_latest_37) ?_
    cases hf
    exact v_ireturn (pc := 40) C X.2.1 X.2.2.1 X.2.2.2.1 rfl dX2_latest_40
  · rw [if_neg hc] at hf
    refine v_aload_n (pc := 13) (j := 0) C dX2_latest_13 rfl rfl ?_
    refine v_iconst (pc := 14) (v := (1 : Int32)) C dX2_latest_14 rfl ?_
    obtain ⟨b15, eb15, hf⟩ := oB hf
    obtain ⟨rb15, _, kb15⟩ := aIs_eq eb15
    obtain ⟨x16, h17, ex16, hf⟩ := bnd2_eq hf
    refine v_call (pc := 15) (d_V (pc := 15) C (As := [.int (1 : Int32)]) (rest := []) rb15 kb15 nt_1 q2498 yi_X2_err_FigureSurveyModel yk_X2_err rfl (by decide) (by decide) (Nat.le_trans aw_0 (by decide)) rfl (mX2_err C.st ex16) dX2_latest_15) ?_
    refine v_goto (pc := 18) (tgt := 40) C dX2_latest_18 rfl ?_
    cases hf
    exact v_ireturn (pc := 40) C X.2.1 X.2.2.1 X.2.2.2.1 rfl dX2_latest_40
theorem mX2_latest {l : Launch} {D : aD} {h : aH} {a0 : Option Nat} {a1 : Int32} {q : Int32} {g : aH} (hst : l.stackTraces = false) (hf : fX2_latest D h a0 a1 = some (q, g)) : aM l D yX2_latest cX2_latest 2 (some .int) 8 190 [va_rf a0, .int a1] h (.inr (some (.int q)), g) :=
  aM.ofX [(false, va_rf a0), (false, .int a1)] rfl (ap_r (ap_c rfl ap_0)) (by decide +kernel) hst (al_of (aw_r (aw_i aw_0)) (by decide)) fun p e s m args below meth c X => V.sub (lv' := [(0, false, va_rf a0), (1, false, .int a1)]) [0, 1] rfl (vX2_latest X hf)
def fX2_reasonFor (D : aD) (h : aH) (a0 : Option Nat) (a1 : Int32) (a2 : Int32) : Option (Int32 × aH) :=
  (pF D h 1 0 a0 (.int (0 : Int32))).bind fun h1 =>
  (aIs h1 1 a0).bind fun _ =>
  (fX2_noFigure D h1 a0 a1).bind fun x3 =>
  if x3 = 0 then
  ((aMk D h1 (9, dfX10)).bind fun h5 =>
  (aIs h5 1 a0).bind fun _ =>
  (fX2_panelOf D h5 a0 a1).bind fun x7 =>
  (fX10_init D h5 (some h1.1) a0 x7).bind fun h11 =>
  (aIs h11 9 (some h1.1)).bind fun _ =>
  (fX10_place D h11 (some h1.1) a1).bind fun x13 =>
  if 0 ≤ x13 then
  ((aIs h11 9 (some h1.1)).bind fun _ =>
  (fX10_reason D h11 (some h1.1) a1 a2).bind fun x16 =>
  some (x16, h11))
  else
  (some ((-1 : Int32), h11)))
  else
  ((aIs h1 1 a0).bind fun _ =>
  bnd2 (fX2_err D h1 a0 (1 : Int32)) fun x19 h20 =>
  some (x19, h20))
theorem vX2_reasonFor {h : aH} {a0 : Option Nat} {a1 : Int32} {a2 : Int32} {q : Int32} {g : aH} (X : aX p l R s m meth c D n0 s0 yX2_reasonFor cX2_reasonFor 8 190 4 (some .int) h0) (hf : fX2_reasonFor D h a0 a1 a2 = some (q, g)) : V p l e R s m args below meth c D n0 s0 (aEnd D below args s h0 (.inr (some (.int q)), g)) h 0 [(0, false, va_rf a0), (1, false, .int a1), (2, false, .int a2)] [] := by
  have C := X.1
  unfold fX2_reasonFor at hf
  refine v_aload_n (pc := 0) (j := 0) C dX2_reasonFor_0 rfl rfl ?_
  refine v_iconst (pc := 1) (v := (0 : Int32)) C dX2_reasonFor_1 rfl ?_
  obtain ⟨h1, eh1, hf⟩ := oB hf
  refine v_putF (pc := 2) C lk_X2_69 tyX2 tyX2_ok nmX2 (tyX2_ok 0 (by decide)) rfl rfl eh1 dX2_reasonFor_2 ?_
  refine v_aload_n (pc := 5) (j := 0) C dX2_reasonFor_5 rfl rfl ?_
  refine v_iload_n (pc := 6) (j := 1) C dX2_reasonFor_6 rfl rfl ?_
  obtain ⟨b2, eb2, hf⟩ := oB hf
  obtain ⟨rb2, _, kb2⟩ := aIs_eq eb2
  obtain ⟨x3, ex3, hf⟩ := oB hf
  refine v_call (pc := 7) (d_V (pc := 7) C (As := [.int a1]) (rest := []) rb2 kb2 nt_1 q2560 yi_X2_noFigure_FigureSurveyModel yk_X2_noFigure rfl (by decide) (by decide) (Nat.le_trans aw_0 (by decide)) rfl (mX2_noFigure C.st ex3) dX2_reasonFor_7) ?_
  refine v_if_eq (pc := 10) (tgt := 19) C dX2_reasonFor_10 rfl (fun hc => ?_) (fun hc => ?_)
  · rw [if_pos hc] at hf
    obtain ⟨h5, eh5, hf⟩ := oB hf
    refine v_new (pc := 19) (t := 9) (fs := dfX10) (T := TX10) (N := 8) C rfl in_X10 tyX10 tyX10_ok q2682 q2683 q121 dfX10_ok rfl eh5 dX2_reasonFor_19 ?_
    refine v_dup (pc := 22) C dX2_reasonFor_22 (va_rfc _) ?_
    refine v_aload_n (pc := 23) (j := 0) C dX2_reasonFor_23 rfl rfl ?_
    refine v_aload_n (pc := 24) (j := 0) C dX2_reasonFor_24 rfl rfl ?_
    refine v_iload_n (pc := 25) (j := 1) C dX2_reasonFor_25 rfl rfl ?_
    obtain ⟨b6, eb6, hf⟩ := oB hf
    obtain ⟨rb6, _, kb6⟩ := aIs_eq eb6
    obtain ⟨x7, ex7, hf⟩ := oB hf
    refine v_call (pc := 26) (d_V (pc := 26) C (As := [.int a1]) (rest := [va_rf a0, va_rf (some h1.1), va_rf (some h1.1)]) rb6 kb6 nt_1 q2552 yi_X2_panelOf_FigureSurveyModel yk_X2_panelOf rfl (by decide) (by decide) (Nat.le_trans (aw_r (aw_r (aw_r aw_0))) (by decide)) rfl (mX2_panelOf C.st ex7) dX2_reasonFor_26) ?_
    obtain ⟨h11, ex10, hf⟩ := oB hf
    refine v_callU (pc := 29) (d_I (pc := 29) C (As := [va_rf a0, .int x7]) (rest := [va_rf (some h1.1)]) rfl rfl rfl q2684 q2685 yk_X10_init rfl (by decide) (by decide) (Nat.le_trans (aw_r aw_0) (by decide)) rfl (mX10_init C.st ex10) dX2_reasonFor_29) ?_
    refine v_astore_n (pc := 32) (lv' := [(3, false, va_rf (some h1.1)), (0, false, va_rf a0), (1, false, .int a1), (2, false, .int a2)]) C dX2_reasonFor_32 rfl (by decide) rfl ?_
    refine v_aload_n (pc := 33) (j := 0) C dX2_reasonFor_33 rfl rfl ?_
    refine v_iload_n (pc := 34) (j := 2) C dX2_reasonFor_34 rfl rfl ?_
    obtain ⟨b12, eb12, hf⟩ := oB hf
    obtain ⟨rb12, _, kb12⟩ := aIs_eq eb12
    obtain ⟨x13, ex13, hf⟩ := oB hf
    refine v_call (pc := 35) (d_V (pc := 35) C (As := [.int a1]) (rest := []) rb12 kb12 nt_9 q2774 yi_X10_place_FigureSurveyModel_Found yk_X10_place rfl (by decide) (by decide) (Nat.le_trans aw_0 (by decide)) rfl (mX10_place C.st ex13) dX2_reasonFor_35) ?_
    refine v_if_ge (pc := 38) (tgt := 45) C dX2_reasonFor_38 rfl (fun hc => ?_) (fun hc => ?_)
    · rw [if_pos hc] at hf
      refine v_aload_n (pc := 45) (j := 0) C dX2_reasonFor_45 rfl rfl ?_
      refine v_iload_n (pc := 46) (j := 2) C dX2_reasonFor_46 rfl rfl ?_
      refine v_iload_n (pc := 47) (j := 3) C dX2_reasonFor_47 rfl rfl ?_
      obtain ⟨b15, eb15, hf⟩ := oB hf
      obtain ⟨rb15, _, kb15⟩ := aIs_eq eb15
      obtain ⟨x16, ex16, hf⟩ := oB hf
      refine v_call (pc := 48) (d_V (pc := 48) C (As := [.int a1, .int a2]) (rest := []) rb15 kb15 nt_9 q2783 yi_X10_reason_FigureSurveyModel_Found yk_X10_reason rfl (by decide) (by decide) (Nat.le_trans aw_0 (by decide)) rfl (mX10_reason C.st ex16) dX2_reasonFor_48) ?_
      cases hf
      exact v_ireturn (pc := 51) C X.2.1 X.2.2.1 X.2.2.2.1 rfl dX2_reasonFor_51
    · rw [if_neg hc] at hf
      refine v_iconst (pc := 41) (v := (-1 : Int32)) C dX2_reasonFor_41 rfl ?_
      refine v_goto (pc := 42) (tgt := 51) C dX2_reasonFor_42 rfl ?_
      cases hf
      exact v_ireturn (pc := 51) C X.2.1 X.2.2.1 X.2.2.2.1 rfl dX2_reasonFor_51
  · rw [if_neg hc] at hf
    refine v_aload_n (pc := 13) (j := 0) C dX2_reasonFor_13 rfl rfl ?_
    refine v_iconst (pc := 14) (v := (1 : Int32)) C dX2_reasonFor_14 rfl ?_
    obtain ⟨b18, eb18, hf⟩ := oB hf
    obtain ⟨rb18, _, kb18⟩ := aIs_eq eb18
    obtain ⟨x19, h20, ex19, hf⟩ := bnd2_eq hf
    refine v_call (pc := 15) (d_V (pc := 15) C (As := [.int (1 : Int32)]) (rest := []) rb18 kb18 nt_1 q2498 yi_X2_err_FigureSurveyModel yk_X2_err rfl (by decide) (by decide) (Nat.le_trans aw_0 (by decide)) rfl (mX2_err C.st ex19) dX2_reasonFor_15) ?_
    cases hf
    exact v_ireturn (pc := 18) C X.2.1 X.2.2.1 X.2.2.2.1 rfl dX2_reasonFor_18
theorem mX2_reasonFor {l : Launch} {D : aD} {h : aH} {a0 : Option Nat} {a1 : Int32} {a2 : Int32} {q : Int32} {g : aH} (hst : l.stackTraces = false) (hf : fX2_reasonFor D h a0 a1 a2 = some (q, g)) : aM l D yX2_reasonFor cX2_reasonFor 4 (some .int) 8 190 [va_rf a0, .int a1, .int a2] h (.inr (some (.int q)), g) :=
  aM.ofX [(false, va_rf a0), (false, .int a1), (false, .int a2)] rfl (ap_r (ap_c rfl (ap_c rfl ap_0))) (by decide +kernel) hst (al_of (aw_r (aw_i (aw_i aw_0))) (by decide)) fun p e s m args below meth c X => V.sub (lv' := [(0, false, va_rf a0), (1, false, .int a1), (2, false, .int a2)]) [0, 1, 2] rfl (vX2_reasonFor X hf)
def fJ19_intValue (D : aD) (h : aH) (a0 : Option Nat) : Option (Int32) :=
  (gI h 22 0 a0).bind fun x1 =>
  some x1
theorem vJ19_intValue {h : aH} {a0 : Option Nat} {q : Int32} (X : aX p l R s m meth c D n0 s0 yJ19_intValue cJ19_intValue 0 0 1 (some .int) h0) (hf : fJ19_intValue D h a0 = some q) : V p l e R s m args below meth c D n0 s0 (aEnd D below args s h0 (.inr (some (.int q)), h)) h 0 [(0, false, va_rf a0)] [] := by
  have C := X.1
  unfold fJ19_intValue at hf
  refine v_aload_n (pc := 0) (j := 0) C dJ19_intValue_0 rfl rfl ?_
  obtain ⟨x1, ex1, hf⟩ := oB hf
  refine v_getF (pc := 1) C lk_J19_205 (gI_eq ex1) dJ19_intValue_1 ?_
  cases hf
  exact v_ireturn (pc := 4) C X.2.1 X.2.2.1 X.2.2.2.1 rfl dJ19_intValue_4
theorem mJ19_intValue {l : Launch} {D : aD} {h : aH} {a0 : Option Nat} {q : Int32} (hst : l.stackTraces = false) (hf : fJ19_intValue D h a0 = some q) : aM l D yJ19_intValue cJ19_intValue 1 (some .int) 0 0 [va_rf a0] h (.inr (some (.int q)), h) :=
  aM.ofX [(false, va_rf a0)] rfl (ap_r ap_0) (by decide +kernel) hst (al_of (aw_r aw_0) (by decide)) fun p e s m args below meth c X => V.sub (lv' := [(0, false, va_rf a0)]) [0] rfl (vJ19_intValue X hf)
def fX2_distance_p10 (D : aD) (h : aH) : Nat → Int32 → Int32 → Int32 → Int32 → Option (Int32)
  | 0, _, _, _, _ => none
  | n + 1, a2, a3, a4, a5 =>
  if (6 : Int32) ≤ a3 then
  (some a2)
  else
  ((fJ11_abs D h ((a4 - a4 / (10 : Int32) * (10 : Int32)) - (a5 - a5 / (10 : Int32) * (10 : Int32)))).bind fun x2 =>
  (some ((a2 + x2))).bind fun x4 =>
  (some ((a4 / (10 : Int32)))).bind fun x5 =>
  (some ((a5 / (10 : Int32)))).bind fun x6 =>
  fX2_distance_p10 D h n x4 (a3 + 1) x5 x6)
theorem vX2_distance_p10 {h : aH} (X : aX p l R s m meth c D n0 s0 yX2_distance cX2_distance 1 20 6 (some .int) h0) : ∀ (n : Nat) (a2 : Int32) (a3 : Int32) (a4 : Int32) (a5 : Int32) (q : Int32), fX2_distance_p10 D h n a2 a3 a4 a5 = some q → V p l e R s m args below meth c D n0 s0 (aEnd D below args s h0 (.inr (some (.int q)), h)) h 10 [(2, false, .int a2), (3, false, .int a3), (4, false, .int a4), (5, false, .int a5)] [] := by
  have C := X.1
  intro n
  induction n with
  | zero =>
    intro _ _ _ _ _ hf
    rw [fX2_distance_p10] at hf
    cases hf
  | succ n ih =>
    intro a2 a3 a4 a5 q hf
    rw [fX2_distance_p10] at hf
    refine v_iload_n (pc := 10) (j := 1) C dX2_distance_10 rfl rfl ?_
    refine v_bipush (pc := 11) (v := (6 : Int32)) C dX2_distance_11 rfl ?_
    refine v_icmp_ge (pc := 13) (tgt := 53) C dX2_distance_13 rfl (fun hc => ?_) (fun hc => ?_)
    · rw [if_pos hc] at hf
      refine v_iload_n (pc := 53) (j := 0) C dX2_distance_53 rfl rfl ?_
      cases hf
      exact v_ireturn (pc := 54) C X.2.1 X.2.2.1 X.2.2.2.1 rfl dX2_distance_54
    · rw [if_neg hc] at hf
      refine v_iload_n (pc := 16) (j := 0) C dX2_distance_16 rfl rfl ?_
      refine v_iload (pc := 17) (j := 2) C dX2_distance_17 rfl ?_
      refine v_bipush (pc := 19) (v := (10 : Int32)) C dX2_distance_19 rfl ?_
      refine v_irem (pc := 21) C dX2_distance_21 (by decide) ?_
      refine v_iload (pc := 22) (j := 3) C dX2_distance_22 rfl ?_
      refine v_bipush (pc := 24) (v := (10 : Int32)) C dX2_distance_24 rfl ?_
      refine v_irem (pc := 26) C dX2_distance_26 (by decide) ?_
      refine v_isub (pc := 27) C dX2_distance_27 ?_
      obtain ⟨x2, ex2, hf⟩ := oB hf
      refine v_call (pc := 28) (d_S (pc := 28) C (As := [.int ((a4 - a4 / (10 : Int32) * (10 : Int32)) - (a5 - a5 / (10 : Int32) * (10 : Int32)))]) (rest := [.int a2]) q2535 q592 yk_J11_abs rfl (by decide) (by decide) (Nat.le_trans (aw_i aw_0) (by decide)) rfl (mJ11_abs C.st ex2) dX2_distance_28) ?_
      refine v_iadd (pc := 31) C dX2_distance_31 ?_
      obtain ⟨x4, ex4, hf⟩ := oB hf
      refine vst (Option.some.inj ex4) (fun z => .int z :: []) ?_
      refine v_istore_n (pc := 32) (lv' := [(2, false, .int x4), (3, false, .int a3), (4, false, .int a4), (5, false, .int a5)]) C dX2_distance_32 rfl (by decide) rfl ?_
      refine v_iinc (pc := 33) (j := 1) (v := (a3 + 1)) (lv' := [(3, false, .int (a3 + 1)), (2, false, .int x4), (4, false, .int a4), (5, false, .int a5)]) C dX2_distance_33 rfl rfl (by decide) rfl ?_
      refine v_iload (pc := 36) (j := 2) C dX2_distance_36 rfl ?_
      refine v_bipush (pc := 38) (v := (10 : Int32)) C dX2_distance_38 rfl ?_
      refine v_idiv (pc := 40) C dX2_distance_40 (by decide) ?_
      obtain ⟨x5, ex5, hf⟩ := oB hf
      refine vst (Option.some.inj ex5) (fun z => .int z :: []) ?_
      refine v_istore (pc := 41) (lv' := [(4, false, .int x5), (3, false, .int (a3 + 1)), (2, false, .int x4), (5, false, .int a5)]) C dX2_distance_41 (by decide) rfl ?_
      refine v_iload (pc := 43) (j := 3) C dX2_distance_43 rfl ?_
      refine v_bipush (pc := 45) (v := (10 : Int32)) C dX2_distance_45 rfl ?_
      refine v_idiv (pc := 47) C dX2_distance_47 (by decide) ?_
      obtain ⟨x6, ex6, hf⟩ := oB hf
      refine vst (Option.some.inj ex6) (fun z => .int z :: []) ?_
      refine v_istore (pc := 48) (lv' := [(5, false, .int x6), (4, false, .int x5), (3, false, .int (a3 + 1)), (2, false, .int x4)]) C dX2_distance_48 (by decide) rfl ?_
      refine v_goto (pc := 50) (tgt := 10) C dX2_distance_50 rfl ?_
      exact V.sub [3, 2, 1, 0] rfl (ih _ _ _ _ _ hf)
def fX2_distance (D : aD) (h : aH) (a0 : Int32) (a1 : Int32) : Option (Int32) :=
  fX2_distance_p10 D h FU (0 : Int32) (0 : Int32) a0 a1
theorem vX2_distance {h : aH} {a0 : Int32} {a1 : Int32} {q : Int32} (X : aX p l R s m meth c D n0 s0 yX2_distance cX2_distance 1 20 6 (some .int) h0) (hf : fX2_distance D h a0 a1 = some q) : V p l e R s m args below meth c D n0 s0 (aEnd D below args s h0 (.inr (some (.int q)), h)) h 0 [(0, false, .int a0), (1, false, .int a1)] [] := by
  have C := X.1
  unfold fX2_distance at hf
  refine v_iconst (pc := 0) (v := (0 : Int32)) C dX2_distance_0 rfl ?_
  refine v_istore_n (pc := 1) (lv' := [(2, false, .int (0 : Int32)), (0, false, .int a0), (1, false, .int a1)]) C dX2_distance_1 rfl (by decide) rfl ?_
  refine v_iconst (pc := 2) (v := (0 : Int32)) C dX2_distance_2 rfl ?_
  refine v_istore_n (pc := 3) (lv' := [(3, false, .int (0 : Int32)), (2, false, .int (0 : Int32)), (0, false, .int a0), (1, false, .int a1)]) C dX2_distance_3 rfl (by decide) rfl ?_
  refine v_iload_n (pc := 4) (j := 2) C dX2_distance_4 rfl rfl ?_
  refine v_istore (pc := 5) (lv' := [(4, false, .int a0), (3, false, .int (0 : Int32)), (2, false, .int (0 : Int32)), (0, false, .int a0), (1, false, .int a1)]) C dX2_distance_5 (by decide) rfl ?_
  refine v_iload_n (pc := 7) (j := 4) C dX2_distance_7 rfl rfl ?_
  refine v_istore (pc := 8) (lv' := [(5, false, .int a1), (4, false, .int a0), (3, false, .int (0 : Int32)), (2, false, .int (0 : Int32)), (0, false, .int a0), (1, false, .int a1)]) C dX2_distance_8 (by decide) rfl ?_
  exact V.sub [3, 2, 1, 0] rfl (vX2_distance_p10 X _ _ _ _ _ _ hf)
theorem mX2_distance {l : Launch} {D : aD} {h : aH} {a0 : Int32} {a1 : Int32} {q : Int32} (hst : l.stackTraces = false) (hf : fX2_distance D h a0 a1 = some q) : aM l D yX2_distance cX2_distance 6 (some .int) 1 20 [.int a0, .int a1] h (.inr (some (.int q)), h) :=
  aM.ofX [(false, .int a0), (false, .int a1)] rfl (ap_c rfl (ap_c rfl ap_0)) (by decide +kernel) hst (al_of (aw_i (aw_i aw_0)) (by decide)) fun p e s m args below meth c X => V.sub (lv' := [(0, false, .int a0), (1, false, .int a1)]) [0, 1] rfl (vX2_distance X hf)
def fX2_style_p96 (D : aD) (h : aH) (K4 : (Option Nat) → Int32 → Int32 → Int32 → Option (Int32)) (a0 : Option Nat) (a1 : Int32) (a2 : Int32) (a3 : Int32) : Option (Int32) :=
  K4 a0 a1 a2 (a3 + 1)
theorem vX2_style_p96 {h : aH} {K4 : (Option Nat) → Int32 → Int32 → Int32 → Option (Int32)} {a0 : Option Nat} {a1 : Int32} {a2 : Int32} {a3 : Int32} {q : Int32} (X : aX p l R s m meth c D n0 s0 yX2_style cX2_style 3 64 5 (some .int) h0) (k4 : ∀ (a0 : Option Nat) (a1 : Int32) (a2 : Int32) (a3 : Int32) (q : Int32), K4 a0 a1 a2 a3 = some q → V p l e R s m args below meth c D n0 s0 (aEnd D below args s h0 (.inr (some (.int q)), h)) h 4 [(0, false, va_rf a0), (1, false, .int a1), (2, false, .int a2), (3, false, .int a3)] []) (hf : fX2_style_p96 D h K4 a0 a1 a2 a3 = some q) : V p l e R s m args below meth c D n0 s0 (aEnd D below args s h0 (.inr (some (.int q)), h)) h 96 [(0, false, va_rf a0), (1, false, .int a1), (2, false, .int a2), (3, false, .int a3)] [] := by
  have C := X.1
  unfold fX2_style_p96 at hf
  refine v_iinc (pc := 96) (j := 3) (v := (a3 + 1)) (lv' := [(3, false, .int (a3 + 1)), (0, false, va_rf a0), (1, false, .int a1), (2, false, .int a2)]) C dX2_style_96 rfl rfl (by decide) rfl ?_
  refine v_goto (pc := 99) (tgt := 4) C dX2_style_99 rfl ?_
  exact V.sub [1, 2, 3, 0] rfl (k4 _ _ _ _ _ hf)
def fX2_style_p94 (D : aD) (h : aH) (K4 : (Option Nat) → Int32 → Int32 → Int32 → Option (Int32)) (a0 : Option Nat) (a1 : Int32) (a3 : Int32) : Option (Int32) :=
  fX2_style_p96 D h K4 a0 a1 a3 a3
theorem vX2_style_p94 {h : aH} {K4 : (Option Nat) → Int32 → Int32 → Int32 → Option (Int32)} {a0 : Option Nat} {a1 : Int32} {a3 : Int32} {q : Int32} (X : aX p l R s m meth c D n0 s0 yX2_style cX2_style 3 64 5 (some .int) h0) (k4 : ∀ (a0 : Option Nat) (a1 : Int32) (a2 : Int32) (a3 : Int32) (q : Int32), K4 a0 a1 a2 a3 = some q → V p l e R s m args below meth c D n0 s0 (aEnd D below args s h0 (.inr (some (.int q)), h)) h 4 [(0, false, va_rf a0), (1, false, .int a1), (2, false, .int a2), (3, false, .int a3)] []) (hf : fX2_style_p94 D h K4 a0 a1 a3 = some q) : V p l e R s m args below meth c D n0 s0 (aEnd D below args s h0 (.inr (some (.int q)), h)) h 94 [(0, false, va_rf a0), (1, false, .int a1), (3, false, .int a3)] [] := by
  have C := X.1
  unfold fX2_style_p94 at hf
  refine v_iload_n (pc := 94) (j := 2) C dX2_style_94 rfl rfl ?_
  refine v_istore_n (pc := 95) (lv' := [(2, false, .int a3), (0, false, va_rf a0), (1, false, .int a1), (3, false, .int a3)]) C dX2_style_95 rfl (by decide) rfl ?_
  exact V.sub [1, 2, 0, 3] rfl (vX2_style_p96 X k4 hf)
def fX2_style_p4 (D : aD) (h : aH) : Nat → (Option Nat) → Int32 → Int32 → Int32 → Option (Int32)
  | 0, _, _, _, _ => none
  | n + 1, a0, a1, a2, a3 =>
  (gR h 1 16 a0).bind fun x1 =>
  (aIs h 15 x1).bind fun _ =>
  (fJ2_size D h x1).bind fun x3 =>
  if x3 ≤ a3 then
  (some a2)
  else
  ((gR h 1 9 a0).bind fun x5 =>
  (aIs h 15 x5).bind fun _ =>
  (fJ2_get D h x5 a1).bind fun x7 =>
  (aCast h [100] x7).bind fun _ =>
  (eI h x7 (2 : Int32)).bind fun x10 =>
  (gR h 1 16 a0).bind fun x11 =>
  (aIs h 15 x11).bind fun _ =>
  (fJ2_get D h x11 a3).bind fun x13 =>
  (aCast h [22] x13).bind fun _ =>
  (aIs h 22 x13).bind fun _ =>
  (fJ19_intValue D h x13).bind fun x17 =>
  (fX2_distance D h x10 x17).bind fun x20 =>
  if (12 : Int32) < x20 then
  (fX2_style_p96 D h (fX2_style_p4 D h n) a0 a1 a2 a3)
  else
  (if a2 = (-1 : Int32) then
  (fX2_style_p94 D h (fX2_style_p4 D h n) a0 a1 a3)
  else
  ((gR h 1 9 a0).bind fun x22 =>
  (aIs h 15 x22).bind fun _ =>
  (fJ2_get D h x22 a1).bind fun x24 =>
  (aCast h [100] x24).bind fun _ =>
  (eI h x24 (2 : Int32)).bind fun x27 =>
  (gR h 1 16 a0).bind fun x28 =>
  (aIs h 15 x28).bind fun _ =>
  (fJ2_get D h x28 a2).bind fun x30 =>
  (aCast h [22] x30).bind fun _ =>
  (aIs h 22 x30).bind fun _ =>
  (fJ19_intValue D h x30).bind fun x34 =>
  (fX2_distance D h x27 x34).bind fun x37 =>
  if x37 ≤ x20 then
  (fX2_style_p96 D h (fX2_style_p4 D h n) a0 a1 a2 a3)
  else
  (fX2_style_p94 D h (fX2_style_p4 D h n) a0 a1 a3))))
theorem vX2_style_p4 {h : aH} (X : aX p l R s m meth c D n0 s0 yX2_style cX2_style 3 64 5 (some .int) h0) : ∀ (n : Nat) (a0 : Option Nat) (a1 : Int32) (a2 : Int32) (a3 : Int32) (q : Int32), fX2_style_p4 D h n a0 a1 a2 a3 = some q → V p l e R s m args below meth c D n0 s0 (aEnd D below args s h0 (.inr (some (.int q)), h)) h 4 [(0, false, va_rf a0), (1, false, .int a1), (2, false, .int a2), (3, false, .int a3)] [] := by
  have C := X.1
  intro n
  induction n with
  | zero =>
    intro _ _ _ _ _ hf
    rw [fX2_style_p4] at hf
    cases hf
  | succ n ih =>
    intro a0 a1 a2 a3 q hf
    rw [fX2_style_p4] at hf
    refine v_iload_n (pc := 4) (j := 3) C dX2_style_4 rfl rfl ?_
    refine v_aload_n (pc := 5) (j := 0) C dX2_style_5 rfl rfl ?_
    obtain ⟨x1, ex1, hf⟩ := oB hf
    refine v_getF (pc := 6) C lk_X2_57 (gR_eq ex1) dX2_style_6 ?_
    obtain ⟨b2, eb2, hf⟩ := oB hf
    obtain ⟨rb2, _, kb2⟩ := aIs_eq eb2
    obtain ⟨x3, ex3, hf⟩ := oB hf
    refine v_call (pc := 9) (d_V (pc := 9) C (As := []) (rest := [.int a3]) rb2 kb2 nt_15 q2502 yi_J2_size_java_util_ArrayList yk_J2_size rfl (by decide) (by decide) (Nat.le_trans (aw_i aw_0) (by decide)) rfl (mJ2_size C.st ex3) dX2_style_9) ?_
    refine v_icmp_ge (pc := 12) (tgt := 102) C dX2_style_12 rfl (fun hc => ?_) (fun hc => ?_)
    · rw [if_pos hc] at hf
      refine v_iload_n (pc := 102) (j := 2) C dX2_style_102 rfl rfl ?_
      cases hf
      exact v_ireturn (pc := 103) C X.2.1 X.2.2.1 X.2.2.2.1 rfl dX2_style_103
    · rw [if_neg hc] at hf
      refine v_aload_n (pc := 15) (j := 0) C dX2_style_15 rfl rfl ?_
      obtain ⟨x5, ex5, hf⟩ := oB hf
      refine v_getF (pc := 16) C lk_X2_33 (gR_eq ex5) dX2_style_16 ?_
      refine v_iload_n (pc := 19) (j := 1) C dX2_style_19 rfl rfl ?_
      obtain ⟨b6, eb6, hf⟩ := oB hf
      obtain ⟨rb6, _, kb6⟩ := aIs_eq eb6
      obtain ⟨x7, ex7, hf⟩ := oB hf
      refine v_call (pc := 20) (d_V (pc := 20) C (As := [.int a1]) (rest := []) rb6 kb6 nt_15 q2520 yi_J2_get_java_util_ArrayList yk_J2_get rfl (by decide) (by decide) (Nat.le_trans aw_0 (by decide)) rfl (mJ2_get C.st ex7) dX2_style_20) ?_
      obtain ⟨_, e9, hf⟩ := oB hf
      refine v_cast (pc := 23) C q2521 ct__I e9 dX2_style_23 ?_
      refine v_iconst (pc := 26) (v := (2 : Int32)) C dX2_style_26 rfl ?_
      obtain ⟨x10, ex10, hf⟩ := oB hf
      refine v_iaload (pc := 27) C ex10 dX2_style_27 ?_
      refine v_aload_n (pc := 28) (j := 0) C dX2_style_28 rfl rfl ?_
      obtain ⟨x11, ex11, hf⟩ := oB hf
      refine v_getF (pc := 29) C lk_X2_57 (gR_eq ex11) dX2_style_29 ?_
      refine v_iload_n (pc := 32) (j := 3) C dX2_style_32 rfl rfl ?_
      obtain ⟨b12, eb12, hf⟩ := oB hf
      obtain ⟨rb12, _, kb12⟩ := aIs_eq eb12
      obtain ⟨x13, ex13, hf⟩ := oB hf
      refine v_call (pc := 33) (d_V (pc := 33) C (As := [.int a3]) (rest := [.int x10]) rb12 kb12 nt_15 q2520 yi_J2_get_java_util_ArrayList yk_J2_get rfl (by decide) (by decide) (Nat.le_trans (aw_i aw_0) (by decide)) rfl (mJ2_get C.st ex13) dX2_style_33) ?_
      obtain ⟨_, e15, hf⟩ := oB hf
      refine v_cast (pc := 36) C q2805 ct_java_lang_Integer e15 dX2_style_36 ?_
      obtain ⟨b16, eb16, hf⟩ := oB hf
      obtain ⟨rb16, _, kb16⟩ := aIs_eq eb16
      obtain ⟨x17, ex17, hf⟩ := oB hf
      refine v_call (pc := 39) (d_V (pc := 39) C (As := []) (rest := [.int x10]) rb16 kb16 nt_22 q2806 yi_J19_intValue_java_lang_Integer yk_J19_intValue rfl (by decide) (by decide) (Nat.le_trans (aw_i aw_0) (by decide)) rfl (mJ19_intValue C.st ex17) dX2_style_39) ?_
      obtain ⟨x20, ex20, hf⟩ := oB hf
      refine v_call (pc := 42) (d_S (pc := 42) C (As := [.int x10, .int x17]) (rest := []) q2807 q2808 yk_X2_distance rfl (by decide) (by decide) (Nat.le_trans aw_0 (by decide)) rfl (mX2_distance C.st ex20) dX2_style_42) ?_
      refine v_istore (pc := 45) (lv' := [(4, false, .int x20), (0, false, va_rf a0), (1, false, .int a1), (2, false, .int a2), (3, false, .int a3)]) C dX2_style_45 (by decide) rfl ?_
      refine v_iload (pc := 47) (j := 0) C dX2_style_47 rfl ?_
      refine v_bipush (pc := 49) (v := (12 : Int32)) C dX2_style_49 rfl ?_
      refine v_icmp_gt (pc := 51) (tgt := 96) C dX2_style_51 rfl (fun hc => ?_) (fun hc => ?_)
      · rw [if_pos hc] at hf
        exact V.sub [1, 2, 3, 4] rfl (vX2_style_p96 X ih hf)
      · rw [if_neg hc] at hf
        refine v_iload_n (pc := 54) (j := 3) C dX2_style_54 rfl rfl ?_
        refine v_iconst (pc := 55) (v := (-1 : Int32)) C dX2_style_55 rfl ?_
        refine v_icmp_eq (pc := 56) (tgt := 94) C dX2_style_56 rfl (fun hc => ?_) (fun hc => ?_)
        · rw [if_pos hc] at hf
          exact V.sub [1, 2, 4] rfl (vX2_style_p94 X ih hf)
        · rw [if_neg hc] at hf
          refine v_iload (pc := 59) (j := 0) C dX2_style_59 rfl ?_
          refine v_aload_n (pc := 61) (j := 1) C dX2_style_61 rfl rfl ?_
          obtain ⟨x22, ex22, hf⟩ := oB hf
          refine v_getF (pc := 62) C lk_X2_33 (gR_eq ex22) dX2_style_62 ?_
          refine v_iload_n (pc := 65) (j := 2) C dX2_style_65 rfl rfl ?_
          obtain ⟨b23, eb23, hf⟩ := oB hf
          obtain ⟨rb23, _, kb23⟩ := aIs_eq eb23
          obtain ⟨x24, ex24, hf⟩ := oB hf
          refine v_call (pc := 66) (d_V (pc := 66) C (As := [.int a1]) (rest := [.int x20]) rb23 kb23 nt_15 q2520 yi_J2_get_java_util_ArrayList yk_J2_get rfl (by decide) (by decide) (Nat.le_trans (aw_i aw_0) (by decide)) rfl (mJ2_get C.st ex24) dX2_style_66) ?_
          obtain ⟨_, e26, hf⟩ := oB hf
          refine v_cast (pc := 69) C q2521 ct__I e26 dX2_style_69 ?_
          refine v_iconst (pc := 72) (v := (2 : Int32)) C dX2_style_72 rfl ?_
          obtain ⟨x27, ex27, hf⟩ := oB hf
          refine v_iaload (pc := 73) C ex27 dX2_style_73 ?_
          refine v_aload_n (pc := 74) (j := 1) C dX2_style_74 rfl rfl ?_
          obtain ⟨x28, ex28, hf⟩ := oB hf
          refine v_getF (pc := 75) C lk_X2_57 (gR_eq ex28) dX2_style_75 ?_
          refine v_iload_n (pc := 78) (j := 3) C dX2_style_78 rfl rfl ?_
          obtain ⟨b29, eb29, hf⟩ := oB hf
          obtain ⟨rb29, _, kb29⟩ := aIs_eq eb29
          obtain ⟨x30, ex30, hf⟩ := oB hf
          refine v_call (pc := 79) (d_V (pc := 79) C (As := [.int a2]) (rest := [.int x27, .int x20]) rb29 kb29 nt_15 q2520 yi_J2_get_java_util_ArrayList yk_J2_get rfl (by decide) (by decide) (Nat.le_trans (aw_i (aw_i aw_0)) (by decide)) rfl (mJ2_get C.st ex30) dX2_style_79) ?_
          obtain ⟨_, e32, hf⟩ := oB hf
          refine v_cast (pc := 82) C q2805 ct_java_lang_Integer e32 dX2_style_82 ?_
          obtain ⟨b33, eb33, hf⟩ := oB hf
          obtain ⟨rb33, _, kb33⟩ := aIs_eq eb33
          obtain ⟨x34, ex34, hf⟩ := oB hf
          refine v_call (pc := 85) (d_V (pc := 85) C (As := []) (rest := [.int x27, .int x20]) rb33 kb33 nt_22 q2806 yi_J19_intValue_java_lang_Integer yk_J19_intValue rfl (by decide) (by decide) (Nat.le_trans (aw_i (aw_i aw_0)) (by decide)) rfl (mJ19_intValue C.st ex34) dX2_style_85) ?_
          obtain ⟨x37, ex37, hf⟩ := oB hf
          refine v_call (pc := 88) (d_S (pc := 88) C (As := [.int x27, .int x34]) (rest := [.int x20]) q2807 q2808 yk_X2_distance rfl (by decide) (by decide) (Nat.le_trans (aw_i aw_0) (by decide)) rfl (mX2_distance C.st ex37) dX2_style_88) ?_
          refine v_icmp_ge (pc := 91) (tgt := 96) C dX2_style_91 rfl (fun hc => ?_) (fun hc => ?_)
          · rw [if_pos hc] at hf
            exact V.sub [1, 2, 3, 4] rfl (vX2_style_p96 X ih hf)
          · rw [if_neg hc] at hf
            exact V.sub [1, 2, 4] rfl (vX2_style_p94 X ih hf)
def fX2_style (D : aD) (h : aH) (a0 : Option Nat) (a1 : Int32) : Option (Int32) :=
  fX2_style_p4 D h FU a0 a1 (-1 : Int32) (0 : Int32)
theorem vX2_style {h : aH} {a0 : Option Nat} {a1 : Int32} {q : Int32} (X : aX p l R s m meth c D n0 s0 yX2_style cX2_style 3 64 5 (some .int) h0) (hf : fX2_style D h a0 a1 = some q) : V p l e R s m args below meth c D n0 s0 (aEnd D below args s h0 (.inr (some (.int q)), h)) h 0 [(0, false, va_rf a0), (1, false, .int a1)] [] := by
  have C := X.1
  unfold fX2_style at hf
  refine v_iconst (pc := 0) (v := (-1 : Int32)) C dX2_style_0 rfl ?_
  refine v_istore_n (pc := 1) (lv' := [(2, false, .int (-1 : Int32)), (0, false, va_rf a0), (1, false, .int a1)]) C dX2_style_1 rfl (by decide) rfl ?_
  refine v_iconst (pc := 2) (v := (0 : Int32)) C dX2_style_2 rfl ?_
  refine v_istore_n (pc := 3) (lv' := [(3, false, .int (0 : Int32)), (2, false, .int (-1 : Int32)), (0, false, va_rf a0), (1, false, .int a1)]) C dX2_style_3 rfl (by decide) rfl ?_
  exact V.sub [2, 3, 1, 0] rfl (vX2_style_p4 X _ _ _ _ _ _ hf)
theorem mX2_style {l : Launch} {D : aD} {h : aH} {a0 : Option Nat} {a1 : Int32} {q : Int32} (hst : l.stackTraces = false) (hf : fX2_style D h a0 a1 = some q) : aM l D yX2_style cX2_style 5 (some .int) 3 64 [va_rf a0, .int a1] h (.inr (some (.int q)), h) :=
  aM.ofX [(false, va_rf a0), (false, .int a1)] rfl (ap_r (ap_c rfl ap_0)) (by decide +kernel) hst (al_of (aw_r (aw_i aw_0)) (by decide)) fun p e s m args below meth c X => V.sub (lv' := [(0, false, va_rf a0), (1, false, .int a1)]) [0, 1] rfl (vX2_style X hf)
end SW070
