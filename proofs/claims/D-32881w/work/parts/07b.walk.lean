/-! ===== printed: walks ===== -/
set_option maxRecDepth 100000
section SW071
variable {p : Program} {l : Launch} {e : Env} {R : Room} {s : State} {m : MethodId} {args : Array Value} {below : List Frame} {meth : Method} {c : Code} {D : aD} {n0 s0 : Nat} {h0 : aH}
def fX2_setFeatures (D : aD) (h : aH) (a0 : Option Nat) (a1 : Int32) (a2 : Int32) : Option (Int32 × aH) :=
  (pF D h 1 0 a0 (.int (0 : Int32))).bind fun h1 =>
  (aIs h1 1 a0).bind fun _ =>
  (fX2_noFigure D h1 a0 a1).bind fun x3 =>
  if x3 = 0 then
  ((fX2_in D h1 a2 (0 : Int32) (999999 : Int32)).bind fun x6 =>
  if x6 = 0 then
  ((aIs h1 1 a0).bind fun _ =>
  bnd2 (fX2_err D h1 a0 (2 : Int32)) fun x18 h19 =>
  some (x18, h19))
  else
  ((gR h1 1 9 a0).bind fun x8 =>
  (aIs h1 15 x8).bind fun _ =>
  (fJ2_get D h1 x8 a1).bind fun x10 =>
  (aCast h1 [100] x10).bind fun _ =>
  (sF D h1 100 x10 (2 : Int32) (.int a2)).bind fun h13 =>
  (aIs h13 1 a0).bind fun _ =>
  (fX2_style D h13 a0 a1).bind fun x15 =>
  some (x15, h13)))
  else
  ((aIs h1 1 a0).bind fun _ =>
  bnd2 (fX2_err D h1 a0 (1 : Int32)) fun x21 h22 =>
  some (x21, h22))
theorem vX2_setFeatures {h : aH} {a0 : Option Nat} {a1 : Int32} {a2 : Int32} {q : Int32} {g : aH} (X : aX p l R s m meth c D n0 s0 yX2_setFeatures cX2_setFeatures 4 88 3 (some .int) h0) (hf : fX2_setFeatures D h a0 a1 a2 = some (q, g)) : V p l e R s m args below meth c D n0 s0 (aEnd D below args s h0 (.inr (some (.int q)), g)) h 0 [(0, false, va_rf a0), (1, false, .int a1), (2, false, .int a2)] [] := by
  have C := X.1
  unfold fX2_setFeatures at hf
  refine v_aload_n (pc := 0) (j := 0) C dX2_setFeatures_0 rfl rfl ?_
  refine v_iconst (pc := 1) (v := (0 : Int32)) C dX2_setFeatures_1 rfl ?_
  obtain ⟨h1, eh1, hf⟩ := oB hf
  refine v_putF (pc := 2) C lk_X2_69 tyX2 tyX2_ok nmX2 (tyX2_ok 0 (by decide)) rfl rfl eh1 dX2_setFeatures_2 ?_
  refine v_aload_n (pc := 5) (j := 0) C dX2_setFeatures_5 rfl rfl ?_
  refine v_iload_n (pc := 6) (j := 1) C dX2_setFeatures_6 rfl rfl ?_
  obtain ⟨b2, eb2, hf⟩ := oB hf
  obtain ⟨rb2, _, kb2⟩ := aIs_eq eb2
  obtain ⟨x3, ex3, hf⟩ := oB hf
  refine v_call (pc := 7) (d_V (pc := 7) C (As := [.int a1]) (rest := []) rb2 kb2 nt_1 q2560 yi_X2_noFigure_FigureSurveyModel yk_X2_noFigure rfl (by decide) (by decide) (Nat.le_trans aw_0 (by decide)) rfl (mX2_noFigure C.st ex3) dX2_setFeatures_7) ?_
  refine v_if_eq (pc := 10) (tgt := 19) C dX2_setFeatures_10 rfl (fun hc => ?_) (fun hc => ?_)
  · rw [if_pos hc] at hf
    refine v_iload_n (pc := 19) (j := 2) C dX2_setFeatures_19 rfl rfl ?_
    refine v_iconst (pc := 20) (v := (0 : Int32)) C dX2_setFeatures_20 rfl ?_
    refine v_ldc (pc := 21) (v := (999999 : Int32)) C q2800 dX2_setFeatures_21 ?_
    obtain ⟨x6, ex6, hf⟩ := oB hf
    refine v_call (pc := 23) (d_S (pc := 23) C (As := [.int a2, .int (0 : Int32), .int (999999 : Int32)]) (rest := []) q2495 q2496 yk_X2_in rfl (by decide) (by decide) (Nat.le_trans aw_0 (by decide)) rfl (mX2_in C.st ex6) dX2_setFeatures_23) ?_
    refine v_if_ne (pc := 26) (tgt := 35) C dX2_setFeatures_26 rfl (fun hc => ?_) (fun hc => ?_)
    · rw [if_neg hc] at hf
      refine v_aload_n (pc := 35) (j := 0) C dX2_setFeatures_35 rfl rfl ?_
      obtain ⟨x8, ex8, hf⟩ := oB hf
      refine v_getF (pc := 36) C lk_X2_33 (gR_eq ex8) dX2_setFeatures_36 ?_
      refine v_iload_n (pc := 39) (j := 1) C dX2_setFeatures_39 rfl rfl ?_
      obtain ⟨b9, eb9, hf⟩ := oB hf
      obtain ⟨rb9, _, kb9⟩ := aIs_eq eb9
      obtain ⟨x10, ex10, hf⟩ := oB hf
      refine v_call (pc := 40) (d_V (pc := 40) C (As := [.int a1]) (rest := []) rb9 kb9 nt_15 q2520 yi_J2_get_java_util_ArrayList yk_J2_get rfl (by decide) (by decide) (Nat.le_trans aw_0 (by decide)) rfl (mJ2_get C.st ex10) dX2_setFeatures_40) ?_
      obtain ⟨_, e12, hf⟩ := oB hf
      refine v_cast (pc := 43) C q2521 ct__I e12 dX2_setFeatures_43 ?_
      refine v_iconst (pc := 46) (v := (2 : Int32)) C dX2_setFeatures_46 rfl ?_
      refine v_iload_n (pc := 47) (j := 2) C dX2_setFeatures_47 rfl rfl ?_
      obtain ⟨h13, eh13, hf⟩ := oB hf
      refine v_iastore (pc := 48) C eh13 dX2_setFeatures_48 ?_
      refine v_aload_n (pc := 49) (j := 0) C dX2_setFeatures_49 rfl rfl ?_
      refine v_iload_n (pc := 50) (j := 1) C dX2_setFeatures_50 rfl rfl ?_
      obtain ⟨b14, eb14, hf⟩ := oB hf
      obtain ⟨rb14, _, kb14⟩ := aIs_eq eb14
      obtain ⟨x15, ex15, hf⟩ := oB hf
      refine v_call (pc := 51) (d_V (pc := 51) C (As := [.int a1]) (rest := []) rb14 kb14 nt_1 q2801 yi_X2_style_FigureSurveyModel yk_X2_style rfl (by decide) (by decide) (Nat.le_trans aw_0 (by decide)) rfl (mX2_style C.st ex15) dX2_setFeatures_51) ?_
      cases hf
      exact v_ireturn (pc := 54) C X.2.1 X.2.2.1 X.2.2.2.1 rfl dX2_setFeatures_54
    · rw [if_pos (Decidable.of_not_not hc)] at hf
      refine v_aload_n (pc := 29) (j := 0) C dX2_setFeatures_29 rfl rfl ?_
      refine v_iconst (pc := 30) (v := (2 : Int32)) C dX2_setFeatures_30 rfl ?_
      obtain ⟨b17, eb17, hf⟩ := oB hf
      obtain ⟨rb17, _, kb17⟩ := aIs_eq eb17
      obtain ⟨x18, h19, ex18, hf⟩ := bnd2_eq hf
      refine v_call (pc := 31) (d_V (pc := 31) C (As := [.int (2 : Int32)]) (rest := []) rb17 kb17 nt_1 q2498 yi_X2_err_FigureSurveyModel yk_X2_err rfl (by decide) (by decide) (Nat.le_trans aw_0 (by decide)) rfl (mX2_err C.st ex18) dX2_setFeatures_31) ?_
      cases hf
      exact v_ireturn (pc := 34) C X.2.1 X.2.2.1 X.2.2.2.1 rfl dX2_setFeatures_34
  · rw [if_neg hc] at hf
    refine v_aload_n (pc := 13) (j := 0) C dX2_setFeatures_13 rfl rfl ?_
    refine v_iconst (pc := 14) (v := (1 : Int32)) C dX2_setFeatures_14 rfl ?_
    obtain ⟨b20, eb20, hf⟩ := oB hf
    obtain ⟨rb20, _, kb20⟩ := aIs_eq eb20
    obtain ⟨x21, h22, ex21, hf⟩ := bnd2_eq hf
    refine v_call (pc := 15) (d_V (pc := 15) C (As := [.int (1 : Int32)]) (rest := []) rb20 kb20 nt_1 q2498 yi_X2_err_FigureSurveyModel yk_X2_err rfl (by decide) (by decide) (Nat.le_trans aw_0 (by decide)) rfl (mX2_err C.st ex21) dX2_setFeatures_15) ?_
    cases hf
    exact v_ireturn (pc := 18) C X.2.1 X.2.2.1 X.2.2.2.1 rfl dX2_setFeatures_18
theorem mX2_setFeatures {l : Launch} {D : aD} {h : aH} {a0 : Option Nat} {a1 : Int32} {a2 : Int32} {q : Int32} {g : aH} (hst : l.stackTraces = false) (hf : fX2_setFeatures D h a0 a1 a2 = some (q, g)) : aM l D yX2_setFeatures cX2_setFeatures 3 (some .int) 4 88 [va_rf a0, .int a1, .int a2] h (.inr (some (.int q)), g) :=
  aM.ofX [(false, va_rf a0), (false, .int a1), (false, .int a2)] rfl (ap_r (ap_c rfl (ap_c rfl ap_0))) (by decide +kernel) hst (al_of (aw_r (aw_i (aw_i aw_0))) (by decide)) fun p e s m args below meth c X => V.sub (lv' := [(0, false, va_rf a0), (1, false, .int a1), (2, false, .int a2)]) [0, 1, 2] rfl (vX2_setFeatures X hf)
def fJ18_init (D : aD) (h : aH) (a0 : Option Nat) : Option (Unit) :=
  (a0).bind fun _ =>
  some ()
theorem vJ18_init {h : aH} {a0 : Option Nat} {q : Unit} (X : aX p l R s m meth c D n0 s0 yJ18_init cJ18_init 1 12 1 (none) h0) (hf : fJ18_init D h a0 = some q) : V p l e R s m args below meth c D n0 s0 (aEnd D below args s h0 (.inr none, h)) h 0 [(0, false, va_rf a0)] [] := by
  have C := X.1
  unfold fJ18_init at hf
  refine v_aload_n (pc := 0) (j := 0) C dJ18_init_0 rfl rfl ?_
  obtain ⟨_, e1, hf⟩ := oB hf
  refine v_objInit (pc := 1) C e1 q2073 q138 q139 (by decide) (Nat.le_trans (Nat.add_le_add_right aw_0 12) (by decide)) dJ18_init_1 ?_
  cases hf
  exact v_return (pc := 4) C X.2.1 X.2.2.1 X.2.2.2.1 rfl dJ18_init_4
theorem mJ18_init {l : Launch} {D : aD} {h : aH} {a0 : Option Nat} {q : Unit} (hst : l.stackTraces = false) (hf : fJ18_init D h a0 = some q) : aM l D yJ18_init cJ18_init 1 (none) 1 12 [va_rf a0] h (.inr none, h) :=
  aM.ofX [(false, va_rf a0)] rfl (ap_r ap_0) (by decide +kernel) hst (al_of (aw_r aw_0) (by decide)) fun p e s m args below meth c X => V.sub (lv' := [(0, false, va_rf a0)]) [0] rfl (vJ18_init X hf)
def fJ19_init (D : aD) (h : aH) (a0 : Option Nat) (a1 : Int32) : Option (aH) :=
  (a0).bind fun _ =>
  (fJ18_init D h a0).bind fun _ =>
  (pF D h 22 0 a0 (.int a1)).bind fun h4 =>
  some h4
theorem vJ19_init {h : aH} {a0 : Option Nat} {a1 : Int32} {g : aH} (X : aX p l R s m meth c D n0 s0 yJ19_init cJ19_init 2 32 2 (none) h0) (hf : fJ19_init D h a0 a1 = some g) : V p l e R s m args below meth c D n0 s0 (aEnd D below args s h0 (.inr none, g)) h 0 [(0, false, va_rf a0), (1, false, .int a1)] [] := by
  have C := X.1
  unfold fJ19_init at hf
  refine v_aload_n (pc := 0) (j := 0) C dJ19_init_0 rfl rfl ?_
  obtain ⟨_, eb1, hf⟩ := oB hf
  obtain ⟨x2, ex2, hf⟩ := oB hf
  refine v_callU (pc := 1) (d_I (pc := 1) C (As := []) (rest := []) eb1 rfl rfl q2070 q2071 yk_J18_init rfl (by decide) (by decide) (Nat.le_trans aw_0 (by decide)) rfl (mJ18_init C.st ex2) dJ19_init_1) ?_
  refine v_aload_n (pc := 4) (j := 0) C dJ19_init_4 rfl rfl ?_
  refine v_iload_n (pc := 5) (j := 1) C dJ19_init_5 rfl rfl ?_
  obtain ⟨h4, eh4, hf⟩ := oB hf
  refine v_putC (pc := 6) C X.2.2.2.2.2.1 lk_J19_205 rfl q2074 tyJ19 tyJ19_ok nmJ19 (tyJ19_ok 0 (by decide)) rfl rfl eh4 dJ19_init_6 ?_
  cases hf
  exact v_return (pc := 9) C X.2.1 X.2.2.1 X.2.2.2.1 rfl dJ19_init_9
theorem mJ19_init {l : Launch} {D : aD} {h : aH} {a0 : Option Nat} {a1 : Int32} {g : aH} (hst : l.stackTraces = false) (hf : fJ19_init D h a0 a1 = some g) : aM l D yJ19_init cJ19_init 2 (none) 2 32 [va_rf a0, .int a1] h (.inr none, g) :=
  aM.ofX [(false, va_rf a0), (false, .int a1)] rfl (ap_r (ap_c rfl ap_0)) (by decide +kernel) hst (al_of (aw_r (aw_i aw_0)) (by decide)) fun p e s m args below meth c X => V.sub (lv' := [(0, false, va_rf a0), (1, false, .int a1)]) [0, 1] rfl (vJ19_init X hf)
def fJ19_valueOf_p23 (D : aD) (h : aH) (a0 : Int32) : Option (Option Nat × aH) :=
  (aMk D h (22, dfJ19)).bind fun h1 =>
  (fJ19_init D h1 (some h.1) a0).bind fun h4 =>
  some ((some h.1), h4)
theorem vJ19_valueOf_p23 {h : aH} {a0 : Int32} {q : Option Nat} {g : aH} (X : aX p l R s m meth c D n0 s0 yJ19_valueOf cJ19_valueOf 3 53 1 (some (.object "java/lang/Integer")) h0) (hf : fJ19_valueOf_p23 D h a0 = some (q, g)) : V p l e R s m args below meth c D n0 s0 (aEnd D below args s h0 (.inr (some (va_rf q)), g)) h 23 [(0, false, .int a0)] [] := by
  have C := X.1
  unfold fJ19_valueOf_p23 at hf
  obtain ⟨h1, eh1, hf⟩ := oB hf
  refine v_new (pc := 23) (t := 22) (fs := dfJ19) (T := TJ19) (N := 1) C rfl in_J19 tyJ19 tyJ19_ok q636 q2066 q97 dfJ19_ok rfl eh1 dJ19_valueOf_23 ?_
  refine v_dup (pc := 26) C dJ19_valueOf_26 (va_rfc _) ?_
  refine v_iload_n (pc := 27) (j := 0) C dJ19_valueOf_27 rfl rfl ?_
  obtain ⟨h4, ex3, hf⟩ := oB hf
  refine v_callU (pc := 28) (d_I (pc := 28) C (As := [.int a0]) (rest := [va_rf (some h.1)]) rfl rfl rfl q2067 q2068 yk_J19_init rfl (by decide) (by decide) (Nat.le_trans (aw_r aw_0) (by decide)) rfl (mJ19_init C.st ex3) dJ19_valueOf_28) ?_
  cases hf
  exact v_areturn (pc := 31) C X.2.1 X.2.2.1 X.2.2.2.1 (Or.inl ⟨_, rfl⟩) rfl dJ19_valueOf_31
def fJ19_valueOf (D : aD) (h : aH) (a0 : Int32) : Option (Option Nat × aH) :=
  if a0 < (-128 : Int32) then
  (fJ19_valueOf_p23 D h a0)
  else
  ((asI (D.2.2.2.2 2)).bind fun x1 =>
  if x1 < a0 then
  (fJ19_valueOf_p23 D h a0)
  else
  ((asR (D.2.2.2.2 3)).bind fun x2 =>
  (eR h x2 (a0 + (128 : Int32))).bind fun x3 =>
  some (x3, h)))
theorem vJ19_valueOf {h : aH} {a0 : Int32} {q : Option Nat} {g : aH} (X : aX p l R s m meth c D n0 s0 yJ19_valueOf cJ19_valueOf 3 53 1 (some (.object "java/lang/Integer")) h0) (hf : fJ19_valueOf D h a0 = some (q, g)) : V p l e R s m args below meth c D n0 s0 (aEnd D below args s h0 (.inr (some (va_rf q)), g)) h 0 [(0, false, .int a0)] [] := by
  have C := X.1
  unfold fJ19_valueOf at hf
  refine v_iload_n (pc := 0) (j := 0) C dJ19_valueOf_0 rfl rfl ?_
  refine v_bipush (pc := 1) (v := (-128 : Int32)) C dJ19_valueOf_1 rfl ?_
  refine v_icmp_lt (pc := 3) (tgt := 23) C dJ19_valueOf_3 rfl (fun hc => ?_) (fun hc => ?_)
  · rw [if_pos hc] at hf
    exact V.sub [0] rfl (vJ19_valueOf_p23 X hf)
  · rw [if_neg hc] at hf
    refine v_iload_n (pc := 6) (j := 0) C dJ19_valueOf_6 rfl rfl ?_
    obtain ⟨x1, ex1, hf⟩ := oB hf
    refine v_statI (pc := 7) (k9 := 2) C rfl q2062 ex1 dJ19_valueOf_7 ?_
    refine v_icmp_gt (pc := 10) (tgt := 23) C dJ19_valueOf_10 rfl (fun hc => ?_) (fun hc => ?_)
    · rw [if_pos hc] at hf
      exact V.sub [0] rfl (vJ19_valueOf_p23 X hf)
    · rw [if_neg hc] at hf
      obtain ⟨x2, ex2, hf⟩ := oB hf
      refine v_statR (pc := 13) (k9 := 3) C rfl q2064 ex2 dJ19_valueOf_13 ?_
      refine v_iload_n (pc := 16) (j := 0) C dJ19_valueOf_16 rfl rfl ?_
      refine v_sipush (pc := 17) (v := (128 : Int32)) C dJ19_valueOf_17 rfl ?_
      refine v_iadd (pc := 20) C dJ19_valueOf_20 ?_
      obtain ⟨x3, ex3, hf⟩ := oB hf
      refine v_aaload (pc := 21) C ex3 dJ19_valueOf_21 ?_
      cases hf
      exact v_areturn (pc := 22) C X.2.1 X.2.2.1 X.2.2.2.1 (Or.inl ⟨_, rfl⟩) rfl dJ19_valueOf_22
theorem mJ19_valueOf {l : Launch} {D : aD} {h : aH} {a0 : Int32} {q : Option Nat} {g : aH} (hst : l.stackTraces = false) (hf : fJ19_valueOf D h a0 = some (q, g)) : aM l D yJ19_valueOf cJ19_valueOf 1 (some (.object "java/lang/Integer")) 3 53 [.int a0] h (.inr (some (va_rf q)), g) :=
  aM.ofX [(false, .int a0)] rfl (ap_c rfl ap_0) (by decide +kernel) hst (al_of (aw_i aw_0) (by decide)) fun p e s m args below meth c X => V.sub (lv' := [(0, false, .int a0)]) [0] rfl (vJ19_valueOf X hf)
def fX2_addStyle (D : aD) (h : aH) (a0 : Option Nat) (a1 : Int32) : Option (Int32 × aH) :=
  (pF D h 1 0 a0 (.int (0 : Int32))).bind fun h1 =>
  (fX2_in D h1 a1 (0 : Int32) (999999 : Int32)).bind fun x3 =>
  if x3 = 0 then
  ((aIs h1 1 a0).bind fun _ =>
  bnd2 (fX2_err D h1 a0 (1 : Int32)) fun x24 h25 =>
  some (x24, h25))
  else
  ((gR h1 1 16 a0).bind fun x5 =>
  (aIs h1 15 x5).bind fun _ =>
  (fJ2_size D h1 x5).bind fun x7 =>
  if x7 = (8 : Int32) then
  ((aIs h1 1 a0).bind fun _ =>
  bnd2 (fX2_err D h1 a0 (2 : Int32)) fun x21 h22 =>
  some (x21, h22))
  else
  ((gR h1 1 16 a0).bind fun x9 =>
  bnd2 (fJ19_valueOf D h1 a1) fun x11 h12 =>
  (aIs h12 15 x9).bind fun _ =>
  bnd2 (fJ2_add D h12 x9 x11) fun x14 h15 =>
  (gR h15 1 16 a0).bind fun x16 =>
  (aIs h15 15 x16).bind fun _ =>
  (fJ2_size D h15 x16).bind fun x18 =>
  some ((x18 - (1 : Int32)), h15)))
theorem vX2_addStyle {h : aH} {a0 : Option Nat} {a1 : Int32} {q : Int32} {g : aH} (X : aX p l R s m meth c D n0 s0 yX2_addStyle cX2_addStyle 7 152 2 (some .int) h0) (hf : fX2_addStyle D h a0 a1 = some (q, g)) : V p l e R s m args below meth c D n0 s0 (aEnd D below args s h0 (.inr (some (.int q)), g)) h 0 [(0, false, va_rf a0), (1, false, .int a1)] [] := by
  have C := X.1
  unfold fX2_addStyle at hf
  refine v_aload_n (pc := 0) (j := 0) C dX2_addStyle_0 rfl rfl ?_
  refine v_iconst (pc := 1) (v := (0 : Int32)) C dX2_addStyle_1 rfl ?_
  obtain ⟨h1, eh1, hf⟩ := oB hf
  refine v_putF (pc := 2) C lk_X2_69 tyX2 tyX2_ok nmX2 (tyX2_ok 0 (by decide)) rfl rfl eh1 dX2_addStyle_2 ?_
  refine v_iload_n (pc := 5) (j := 1) C dX2_addStyle_5 rfl rfl ?_
  refine v_iconst (pc := 6) (v := (0 : Int32)) C dX2_addStyle_6 rfl ?_
  refine v_ldc (pc := 7) (v := (999999 : Int32)) C q2800 dX2_addStyle_7 ?_
  obtain ⟨x3, ex3, hf⟩ := oB hf
  refine v_call (pc := 9) (d_S (pc := 9) C (As := [.int a1, .int (0 : Int32), .int (999999 : Int32)]) (rest := []) q2495 q2496 yk_X2_in rfl (by decide) (by decide) (Nat.le_trans aw_0 (by decide)) rfl (mX2_in C.st ex3) dX2_addStyle_9) ?_
  refine v_if_ne (pc := 12) (tgt := 21) C dX2_addStyle_12 rfl (fun hc => ?_) (fun hc => ?_)
  · rw [if_neg hc] at hf
    refine v_aload_n (pc := 21) (j := 0) C dX2_addStyle_21 rfl rfl ?_
    obtain ⟨x5, ex5, hf⟩ := oB hf
    refine v_getF (pc := 22) C lk_X2_57 (gR_eq ex5) dX2_addStyle_22 ?_
    obtain ⟨b6, eb6, hf⟩ := oB hf
    obtain ⟨rb6, _, kb6⟩ := aIs_eq eb6
    obtain ⟨x7, ex7, hf⟩ := oB hf
    refine v_call (pc := 25) (d_V (pc := 25) C (As := []) (rest := []) rb6 kb6 nt_15 q2502 yi_J2_size_java_util_ArrayList yk_J2_size rfl (by decide) (by decide) (Nat.le_trans aw_0 (by decide)) rfl (mJ2_size C.st ex7) dX2_addStyle_25) ?_
    refine v_bipush (pc := 28) (v := (8 : Int32)) C dX2_addStyle_28 rfl ?_
    refine v_icmp_ne (pc := 30) (tgt := 39) C dX2_addStyle_30 rfl (fun hc => ?_) (fun hc => ?_)
    · rw [if_neg hc] at hf
      refine v_aload_n (pc := 39) (j := 0) C dX2_addStyle_39 rfl rfl ?_
      obtain ⟨x9, ex9, hf⟩ := oB hf
      refine v_getF (pc := 40) C lk_X2_57 (gR_eq ex9) dX2_addStyle_40 ?_
      refine v_iload_n (pc := 43) (j := 1) C dX2_addStyle_43 rfl rfl ?_
      obtain ⟨x11, h12, ex11, hf⟩ := bnd2_eq hf
      refine v_call (pc := 44) (d_S (pc := 44) C (As := [.int a1]) (rest := [va_rf x9]) q2814 q2060 yk_J19_valueOf rfl (by decide) (by decide) (Nat.le_trans (aw_r aw_0) (by decide)) rfl (mJ19_valueOf C.st ex11) dX2_addStyle_44) ?_
      obtain ⟨b13, eb13, hf⟩ := oB hf
      obtain ⟨rb13, _, kb13⟩ := aIs_eq eb13
      obtain ⟨x14, h15, ex14, hf⟩ := bnd2_eq hf
      refine v_call (pc := 47) (d_V (pc := 47) C (As := [va_rf x11]) (rest := []) rb13 kb13 nt_15 q2503 yi_J2_add_java_util_ArrayList yk_J2_add rfl (by decide) (by decide) (Nat.le_trans aw_0 (by decide)) rfl (mJ2_add C.st ex14) dX2_addStyle_47) ?_
      refine v_pop (pc := 50) C dX2_addStyle_50 rfl ?_
      refine v_aload_n (pc := 51) (j := 0) C dX2_addStyle_51 rfl rfl ?_
      obtain ⟨x16, ex16, hf⟩ := oB hf
      refine v_getF (pc := 52) C lk_X2_57 (gR_eq ex16) dX2_addStyle_52 ?_
      obtain ⟨b17, eb17, hf⟩ := oB hf
      obtain ⟨rb17, _, kb17⟩ := aIs_eq eb17
      obtain ⟨x18, ex18, hf⟩ := oB hf
      refine v_call (pc := 55) (d_V (pc := 55) C (As := []) (rest := []) rb17 kb17 nt_15 q2502 yi_J2_size_java_util_ArrayList yk_J2_size rfl (by decide) (by decide) (Nat.le_trans aw_0 (by decide)) rfl (mJ2_size C.st ex18) dX2_addStyle_55) ?_
      refine v_iconst (pc := 58) (v := (1 : Int32)) C dX2_addStyle_58 rfl ?_
      refine v_isub (pc := 59) C dX2_addStyle_59 ?_
      cases hf
      exact v_ireturn (pc := 60) C X.2.1 X.2.2.1 X.2.2.2.1 rfl dX2_addStyle_60
    · rw [if_pos (Decidable.of_not_not hc)] at hf
      refine v_aload_n (pc := 33) (j := 0) C dX2_addStyle_33 rfl rfl ?_
      refine v_iconst (pc := 34) (v := (2 : Int32)) C dX2_addStyle_34 rfl ?_
      obtain ⟨b20, eb20, hf⟩ := oB hf
      obtain ⟨rb20, _, kb20⟩ := aIs_eq eb20
      obtain ⟨x21, h22, ex21, hf⟩ := bnd2_eq hf
      refine v_call (pc := 35) (d_V (pc := 35) C (As := [.int (2 : Int32)]) (rest := []) rb20 kb20 nt_1 q2498 yi_X2_err_FigureSurveyModel yk_X2_err rfl (by decide) (by decide) (Nat.le_trans aw_0 (by decide)) rfl (mX2_err C.st ex21) dX2_addStyle_35) ?_
      cases hf
      exact v_ireturn (pc := 38) C X.2.1 X.2.2.1 X.2.2.2.1 rfl dX2_addStyle_38
  · rw [if_pos (Decidable.of_not_not hc)] at hf
    refine v_aload_n (pc := 15) (j := 0) C dX2_addStyle_15 rfl rfl ?_
    refine v_iconst (pc := 16) (v := (1 : Int32)) C dX2_addStyle_16 rfl ?_
    obtain ⟨b23, eb23, hf⟩ := oB hf
    obtain ⟨rb23, _, kb23⟩ := aIs_eq eb23
    obtain ⟨x24, h25, ex24, hf⟩ := bnd2_eq hf
    refine v_call (pc := 17) (d_V (pc := 17) C (As := [.int (1 : Int32)]) (rest := []) rb23 kb23 nt_1 q2498 yi_X2_err_FigureSurveyModel yk_X2_err rfl (by decide) (by decide) (Nat.le_trans aw_0 (by decide)) rfl (mX2_err C.st ex24) dX2_addStyle_17) ?_
    cases hf
    exact v_ireturn (pc := 20) C X.2.1 X.2.2.1 X.2.2.2.1 rfl dX2_addStyle_20
theorem mX2_addStyle {l : Launch} {D : aD} {h : aH} {a0 : Option Nat} {a1 : Int32} {q : Int32} {g : aH} (hst : l.stackTraces = false) (hf : fX2_addStyle D h a0 a1 = some (q, g)) : aM l D yX2_addStyle cX2_addStyle 2 (some .int) 7 152 [va_rf a0, .int a1] h (.inr (some (.int q)), g) :=
  aM.ofX [(false, va_rf a0), (false, .int a1)] rfl (ap_r (ap_c rfl ap_0)) (by decide +kernel) hst (al_of (aw_r (aw_i aw_0)) (by decide)) fun p e s m args below meth c X => V.sub (lv' := [(0, false, va_rf a0), (1, false, .int a1)]) [0, 1] rfl (vX2_addStyle X hf)
def fX2_styleOf (D : aD) (h : aH) (a0 : Option Nat) (a1 : Int32) : Option (Int32 × aH) :=
  (pF D h 1 0 a0 (.int (0 : Int32))).bind fun h1 =>
  (aIs h1 1 a0).bind fun _ =>
  (fX2_noFigure D h1 a0 a1).bind fun x3 =>
  if x3 = 0 then
  ((aIs h1 1 a0).bind fun _ =>
  (fX2_style D h1 a0 a1).bind fun x6 =>
  some (x6, h1))
  else
  ((aIs h1 1 a0).bind fun _ =>
  bnd2 (fX2_err D h1 a0 (1 : Int32)) fun x9 h10 =>
  some (x9, h10))
theorem vX2_styleOf {h : aH} {a0 : Option Nat} {a1 : Int32} {q : Int32} {g : aH} (X : aX p l R s m meth c D n0 s0 yX2_styleOf cX2_styleOf 4 88 2 (some .int) h0) (hf : fX2_styleOf D h a0 a1 = some (q, g)) : V p l e R s m args below meth c D n0 s0 (aEnd D below args s h0 (.inr (some (.int q)), g)) h 0 [(0, false, va_rf a0), (1, false, .int a1)] [] := by
  have C := X.1
  unfold fX2_styleOf at hf
  refine v_aload_n (pc := 0) (j := 0) C dX2_styleOf_0 rfl rfl ?_
  refine v_iconst (pc := 1) (v := (0 : Int32)) C dX2_styleOf_1 rfl ?_
  obtain ⟨h1, eh1, hf⟩ := oB hf
  refine v_putF (pc := 2) C lk_X2_69 tyX2 tyX2_ok nmX2 (tyX2_ok 0 (by decide)) rfl rfl eh1 dX2_styleOf_2 ?_
  refine v_aload_n (pc := 5) (j := 0) C dX2_styleOf_5 rfl rfl ?_
  refine v_iload_n (pc := 6) (j := 1) C dX2_styleOf_6 rfl rfl ?_
  obtain ⟨b2, eb2, hf⟩ := oB hf
  obtain ⟨rb2, _, kb2⟩ := aIs_eq eb2
  obtain ⟨x3, ex3, hf⟩ := oB hf
  refine v_call (pc := 7) (d_V (pc := 7) C (As := [.int a1]) (rest := []) rb2 kb2 nt_1 q2560 yi_X2_noFigure_FigureSurveyModel yk_X2_noFigure rfl (by decide) (by decide) (Nat.le_trans aw_0 (by decide)) rfl (mX2_noFigure C.st ex3) dX2_styleOf_7) ?_
  refine v_if_eq (pc := 10) (tgt := 21) C dX2_styleOf_10 rfl (fun hc => ?_) (fun hc => ?_)
  · rw [if_pos hc] at hf
    refine v_aload_n (pc := 21) (j := 0) C dX2_styleOf_21 rfl rfl ?_
    refine v_iload_n (pc := 22) (j := 1) C dX2_styleOf_22 rfl rfl ?_
    obtain ⟨b5, eb5, hf⟩ := oB hf
    obtain ⟨rb5, _, kb5⟩ := aIs_eq eb5
    obtain ⟨x6, ex6, hf⟩ := oB hf
    refine v_call (pc := 23) (d_V (pc := 23) C (As := [.int a1]) (rest := []) rb5 kb5 nt_1 q2801 yi_X2_style_FigureSurveyModel yk_X2_style rfl (by decide) (by decide) (Nat.le_trans aw_0 (by decide)) rfl (mX2_style C.st ex6) dX2_styleOf_23) ?_
    cases hf
    exact v_ireturn (pc := 26) C X.2.1 X.2.2.1 X.2.2.2.1 rfl dX2_styleOf_26
  · rw [if_neg hc] at hf
    refine v_aload_n (pc := 13) (j := 0) C dX2_styleOf_13 rfl rfl ?_
    refine v_iconst (pc := 14) (v := (1 : Int32)) C dX2_styleOf_14 rfl ?_
    obtain ⟨b8, eb8, hf⟩ := oB hf
    obtain ⟨rb8, _, kb8⟩ := aIs_eq eb8
    obtain ⟨x9, h10, ex9, hf⟩ := bnd2_eq hf
    refine v_call (pc := 15) (d_V (pc := 15) C (As := [.int (1 : Int32)]) (rest := []) rb8 kb8 nt_1 q2498 yi_X2_err_FigureSurveyModel yk_X2_err rfl (by decide) (by decide) (Nat.le_trans aw_0 (by decide)) rfl (mX2_err C.st ex9) dX2_styleOf_15) ?_
    refine v_goto (pc := 18) (tgt := 26) C dX2_styleOf_18 rfl ?_
    cases hf
    exact v_ireturn (pc := 26) C X.2.1 X.2.2.1 X.2.2.2.1 rfl dX2_styleOf_26
theorem mX2_styleOf {l : Launch} {D : aD} {h : aH} {a0 : Option Nat} {a1 : Int32} {q : Int32} {g : aH} (hst : l.stackTraces = false) (hf : fX2_styleOf D h a0 a1 = some (q, g)) : aM l D yX2_styleOf cX2_styleOf 2 (some .int) 4 88 [va_rf a0, .int a1] h (.inr (some (.int q)), g) :=
  aM.ofX [(false, va_rf a0), (false, .int a1)] rfl (ap_r (ap_c rfl ap_0)) (by decide +kernel) hst (al_of (aw_r (aw_i aw_0)) (by decide)) fun p e s m args below meth c X => V.sub (lv' := [(0, false, va_rf a0), (1, false, .int a1)]) [0, 1] rfl (vX2_styleOf X hf)
def fX2_addEntry_p76 (D : aD) (K40 : aH → (Option Nat) → Int32 → Int32 → Int32 → Int32 → Option (Int32 × aH)) (h : aH) (a0 : Option Nat) (a1 : Int32) (a2 : Int32) (a4 : Int32) (t0 : Int32) (t1 : Int32) : Option (Int32 × aH) :=
  (some ((t0 + t1))).bind fun x1 =>
  K40 h a0 a1 a2 x1 (a4 + 1)
theorem vX2_addEntry_p76 {h : aH} {K40 : aH → (Option Nat) → Int32 → Int32 → Int32 → Int32 → Option (Int32 × aH)} {a0 : Option Nat} {a1 : Int32} {a2 : Int32} {a4 : Int32} {t0 : Int32} {t1 : Int32} {q : Int32} {g : aH} (X : aX p l R s m meth c D n0 s0 yX2_addEntry cX2_addEntry 7 152 5 (some .int) h0) (k40 : ∀ (h : aH) (a0 : Option Nat) (a1 : Int32) (a2 : Int32) (a3 : Int32) (a4 : Int32) (q : Int32) (g : aH), K40 h a0 a1 a2 a3 a4 = some (q, g) → V p l e R s m args below meth c D n0 s0 (aEnd D below args s h0 (.inr (some (.int q)), g)) h 40 [(0, false, va_rf a0), (1, false, .int a1), (2, false, .int a2), (3, false, .int a3), (4, false, .int a4)] []) (hf : fX2_addEntry_p76 D K40 h a0 a1 a2 a4 t0 t1 = some (q, g)) : V p l e R s m args below meth c D n0 s0 (aEnd D below args s h0 (.inr (some (.int q)), g)) h 76 [(0, false, va_rf a0), (1, false, .int a1), (2, false, .int a2), (4, false, .int a4)] [.int t1, .int t0] := by
  have C := X.1
  unfold fX2_addEntry_p76 at hf
  refine v_iadd (pc := 76) C dX2_addEntry_76 ?_
  obtain ⟨x1, ex1, hf⟩ := oB hf
  refine vst (Option.some.inj ex1) (fun z => .int z :: []) ?_
  refine v_istore_n (pc := 77) (lv' := [(3, false, .int x1), (0, false, va_rf a0), (1, false, .int a1), (2, false, .int a2), (4, false, .int a4)]) C dX2_addEntry_77 rfl (by decide) rfl ?_
  refine v_iinc (pc := 78) (j := 4) (v := (a4 + 1)) (lv' := [(4, false, .int (a4 + 1)), (3, false, .int x1), (0, false, va_rf a0), (1, false, .int a1), (2, false, .int a2)]) C dX2_addEntry_78 rfl rfl (by decide) rfl ?_
  refine v_goto (pc := 81) (tgt := 40) C dX2_addEntry_81 rfl ?_
  exact V.sub [2, 3, 4, 1, 0] rfl (k40 _ _ _ _ _ _ _ _ hf)
def fX2_addEntry_p102 (D : aD) (h : aH) (a0 : Option Nat) : Option (Int32 × aH) :=
  (aIs h 1 a0).bind fun _ =>
  bnd2 (fX2_err D h a0 (3 : Int32)) fun x2 h3 =>
  some (x2, h3)
theorem vX2_addEntry_p102 {h : aH} {a0 : Option Nat} {q : Int32} {g : aH} (X : aX p l R s m meth c D n0 s0 yX2_addEntry cX2_addEntry 7 152 5 (some .int) h0) (hf : fX2_addEntry_p102 D h a0 = some (q, g)) : V p l e R s m args below meth c D n0 s0 (aEnd D below args s h0 (.inr (some (.int q)), g)) h 102 [(0, false, va_rf a0)] [] := by
  have C := X.1
  unfold fX2_addEntry_p102 at hf
  refine v_aload_n (pc := 102) (j := 0) C dX2_addEntry_102 rfl rfl ?_
  refine v_iconst (pc := 103) (v := (3 : Int32)) C dX2_addEntry_103 rfl ?_
  obtain ⟨b1, eb1, hf⟩ := oB hf
  obtain ⟨rb1, _, kb1⟩ := aIs_eq eb1
  obtain ⟨x2, h3, ex2, hf⟩ := bnd2_eq hf
  refine v_call (pc := 104) (d_V (pc := 104) C (As := [.int (3 : Int32)]) (rest := []) rb1 kb1 nt_1 q2498 yi_X2_err_FigureSurveyModel yk_X2_err rfl (by decide) (by decide) (Nat.le_trans aw_0 (by decide)) rfl (mX2_err C.st ex2) dX2_addEntry_104) ?_
  cases hf
  exact v_ireturn (pc := 107) C X.2.1 X.2.2.1 X.2.2.2.1 rfl dX2_addEntry_107
def fX2_addEntry_p84 (D : aD) (h : aH) (a0 : Option Nat) (a1 : Int32) (a2 : Int32) (a3 : Int32) : Option (Int32 × aH) :=
  (gR h 1 17 a0).bind fun x1 =>
  (aIs h 15 x1).bind fun _ =>
  (fJ2_size D h x1).bind fun x3 =>
  if x3 = (30 : Int32) then
  (fX2_addEntry_p102 D h a0)
  else
  (if a3 = (8 : Int32) then
  (fX2_addEntry_p102 D h a0)
  else
  ((gR h 1 17 a0).bind fun x5 =>
  (aMkA D h 100 (2 : Int32) (.int 0)).bind fun h6 =>
  (sF D h6 100 (some h.1) (0 : Int32) (.int a1)).bind fun h7 =>
  (sF D h7 100 (some h.1) (1 : Int32) (.int a2)).bind fun h8 =>
  (aIs h8 15 x5).bind fun _ =>
  bnd2 (fJ2_add D h8 x5 (some h.1)) fun x10 h11 =>
  (gR h11 1 17 a0).bind fun x12 =>
  (aIs h11 15 x12).bind fun _ =>
  (fJ2_size D h11 x12).bind fun x14 =>
  some ((x14 - (1 : Int32)), h11)))
theorem vX2_addEntry_p84 {h : aH} {a0 : Option Nat} {a1 : Int32} {a2 : Int32} {a3 : Int32} {q : Int32} {g : aH} (X : aX p l R s m meth c D n0 s0 yX2_addEntry cX2_addEntry 7 152 5 (some .int) h0) (hf : fX2_addEntry_p84 D h a0 a1 a2 a3 = some (q, g)) : V p l e R s m args below meth c D n0 s0 (aEnd D below args s h0 (.inr (some (.int q)), g)) h 84 [(0, false, va_rf a0), (1, false, .int a1), (2, false, .int a2), (3, false, .int a3)] [] := by
  have C := X.1
  unfold fX2_addEntry_p84 at hf
  refine v_aload_n (pc := 84) (j := 0) C dX2_addEntry_84 rfl rfl ?_
  obtain ⟨x1, ex1, hf⟩ := oB hf
  refine v_getF (pc := 85) C lk_X2_60 (gR_eq ex1) dX2_addEntry_85 ?_
  obtain ⟨b2, eb2, hf⟩ := oB hf
  obtain ⟨rb2, _, kb2⟩ := aIs_eq eb2
  obtain ⟨x3, ex3, hf⟩ := oB hf
  refine v_call (pc := 88) (d_V (pc := 88) C (As := []) (rest := []) rb2 kb2 nt_15 q2502 yi_J2_size_java_util_ArrayList yk_J2_size rfl (by decide) (by decide) (Nat.le_trans aw_0 (by decide)) rfl (mJ2_size C.st ex3) dX2_addEntry_88) ?_
  refine v_bipush (pc := 91) (v := (30 : Int32)) C dX2_addEntry_91 rfl ?_
  refine v_icmp_eq (pc := 93) (tgt := 102) C dX2_addEntry_93 rfl (fun hc => ?_) (fun hc => ?_)
  · rw [if_pos hc] at hf
    exact V.sub [0] rfl (vX2_addEntry_p102 X hf)
  · rw [if_neg hc] at hf
    refine v_iload_n (pc := 96) (j := 3) C dX2_addEntry_96 rfl rfl ?_
    refine v_bipush (pc := 97) (v := (8 : Int32)) C dX2_addEntry_97 rfl ?_
    refine v_icmp_ne (pc := 99) (tgt := 108) C dX2_addEntry_99 rfl (fun hc => ?_) (fun hc => ?_)
    · rw [if_neg hc] at hf
      refine v_aload_n (pc := 108) (j := 0) C dX2_addEntry_108 rfl rfl ?_
      obtain ⟨x5, ex5, hf⟩ := oB hf
      refine v_getF (pc := 109) C lk_X2_60 (gR_eq ex5) dX2_addEntry_109 ?_
      refine v_iconst (pc := 112) (v := (2 : Int32)) C dX2_addEntry_112 rfl ?_
      obtain ⟨h6, eh6, hf⟩ := oB hf
      refine v_newarray (pc := 113) (t := 100) (v := .int 0) C q169 rfl rfl (by decide) (by decide) rfl eh6 dX2_addEntry_113 ?_
      refine v_dup (pc := 115) C dX2_addEntry_115 (va_rfc _) ?_
      refine v_iconst (pc := 116) (v := (0 : Int32)) C dX2_addEntry_116 rfl ?_
      refine v_iload_n (pc := 117) (j := 1) C dX2_addEntry_117 rfl rfl ?_
      obtain ⟨h7, eh7, hf⟩ := oB hf
      refine v_iastore (pc := 118) C eh7 dX2_addEntry_118 ?_
      refine v_dup (pc := 119) C dX2_addEntry_119 (va_rfc _) ?_
      refine v_iconst (pc := 120) (v := (1 : Int32)) C dX2_addEntry_120 rfl ?_
      refine v_iload_n (pc := 121) (j := 2) C dX2_addEntry_121 rfl rfl ?_
      obtain ⟨h8, eh8, hf⟩ := oB hf
      refine v_iastore (pc := 122) C eh8 dX2_addEntry_122 ?_
      obtain ⟨b9, eb9, hf⟩ := oB hf
      obtain ⟨rb9, _, kb9⟩ := aIs_eq eb9
      obtain ⟨x10, h11, ex10, hf⟩ := bnd2_eq hf
      refine v_call (pc := 123) (d_V (pc := 123) C (As := [va_rf (some h.1)]) (rest := []) rb9 kb9 nt_15 q2503 yi_J2_add_java_util_ArrayList yk_J2_add rfl (by decide) (by decide) (Nat.le_trans aw_0 (by decide)) rfl (mJ2_add C.st ex10) dX2_addEntry_123) ?_
      refine v_pop (pc := 126) C dX2_addEntry_126 rfl ?_
      refine v_aload_n (pc := 127) (j := 0) C dX2_addEntry_127 rfl rfl ?_
      obtain ⟨x12, ex12, hf⟩ := oB hf
      refine v_getF (pc := 128) C lk_X2_60 (gR_eq ex12) dX2_addEntry_128 ?_
      obtain ⟨b13, eb13, hf⟩ := oB hf
      obtain ⟨rb13, _, kb13⟩ := aIs_eq eb13
      obtain ⟨x14, ex14, hf⟩ := oB hf
      refine v_call (pc := 131) (d_V (pc := 131) C (As := []) (rest := []) rb13 kb13 nt_15 q2502 yi_J2_size_java_util_ArrayList yk_J2_size rfl (by decide) (by decide) (Nat.le_trans aw_0 (by decide)) rfl (mJ2_size C.st ex14) dX2_addEntry_131) ?_
      refine v_iconst (pc := 134) (v := (1 : Int32)) C dX2_addEntry_134 rfl ?_
      refine v_isub (pc := 135) C dX2_addEntry_135 ?_
      cases hf
      exact v_ireturn (pc := 136) C X.2.1 X.2.2.1 X.2.2.2.1 rfl dX2_addEntry_136
    · rw [if_pos (Decidable.of_not_not hc)] at hf
      exact V.sub [0] rfl (vX2_addEntry_p102 X hf)
def fX2_addEntry_p40 (D : aD) : Nat → aH → (Option Nat) → Int32 → Int32 → Int32 → Int32 → Option (Int32 × aH)
  | 0, _, _, _, _, _, _ => none
  | n + 1, h, a0, a1, a2, a3, a4 =>
  (gR h 1 17 a0).bind fun x1 =>
  (aIs h 15 x1).bind fun _ =>
  (fJ2_size D h x1).bind fun x3 =>
  if x3 ≤ a4 then
  (fX2_addEntry_p84 D h a0 a1 a2 a3)
  else
  ((gR h 1 17 a0).bind fun x5 =>
  (aIs h 15 x5).bind fun _ =>
  (fJ2_get D h x5 a4).bind fun x7 =>
  (aCast h [100] x7).bind fun _ =>
  (eI h x7 (0 : Int32)).bind fun x10 =>
  fX2_addEntry_p76 D (fX2_addEntry_p40 D n) h a0 a1 a2 a4 a3 (if x10 = a1 then (1 : Int32) else (0 : Int32)))
theorem vX2_addEntry_p40 (X : aX p l R s m meth c D n0 s0 yX2_addEntry cX2_addEntry 7 152 5 (some .int) h0) : ∀ (n : Nat) (h : aH) (a0 : Option Nat) (a1 : Int32) (a2 : Int32) (a3 : Int32) (a4 : Int32) (q : Int32) (g : aH), fX2_addEntry_p40 D n h a0 a1 a2 a3 a4 = some (q, g) → V p l e R s m args below meth c D n0 s0 (aEnd D below args s h0 (.inr (some (.int q)), g)) h 40 [(0, false, va_rf a0), (1, false, .int a1), (2, false, .int a2), (3, false, .int a3), (4, false, .int a4)] [] := by
  have C := X.1
  intro n
  induction n with
  | zero =>
    intro _ _ _ _ _ _ _ _ hf
    rw [fX2_addEntry_p40] at hf
    cases hf
  | succ n ih =>
    intro h a0 a1 a2 a3 a4 q g hf
    rw [fX2_addEntry_p40] at hf
    refine v_iload (pc := 40) (j := 4) C dX2_addEntry_40 rfl ?_
    refine v_aload_n (pc := 42) (j := 0) C dX2_addEntry_42 rfl rfl ?_
    obtain ⟨x1, ex1, hf⟩ := oB hf
    refine v_getF (pc := 43) C lk_X2_60 (gR_eq ex1) dX2_addEntry_43 ?_
    obtain ⟨b2, eb2, hf⟩ := oB hf
    obtain ⟨rb2, _, kb2⟩ := aIs_eq eb2
    obtain ⟨x3, ex3, hf⟩ := oB hf
    refine v_call (pc := 46) (d_V (pc := 46) C (As := []) (rest := [.int a4]) rb2 kb2 nt_15 q2502 yi_J2_size_java_util_ArrayList yk_J2_size rfl (by decide) (by decide) (Nat.le_trans (aw_i aw_0) (by decide)) rfl (mJ2_size C.st ex3) dX2_addEntry_46) ?_
    refine v_icmp_ge (pc := 49) (tgt := 84) C dX2_addEntry_49 rfl (fun hc => ?_) (fun hc => ?_)
    · rw [if_pos hc] at hf
      exact V.sub [0, 1, 2, 3] rfl (vX2_addEntry_p84 X hf)
    · rw [if_neg hc] at hf
      refine v_iload_n (pc := 52) (j := 3) C dX2_addEntry_52 rfl rfl ?_
      refine v_aload_n (pc := 53) (j := 0) C dX2_addEntry_53 rfl rfl ?_
      obtain ⟨x5, ex5, hf⟩ := oB hf
      refine v_getF (pc := 54) C lk_X2_60 (gR_eq ex5) dX2_addEntry_54 ?_
      refine v_iload (pc := 57) (j := 4) C dX2_addEntry_57 rfl ?_
      obtain ⟨b6, eb6, hf⟩ := oB hf
      obtain ⟨rb6, _, kb6⟩ := aIs_eq eb6
      obtain ⟨x7, ex7, hf⟩ := oB hf
      refine v_call (pc := 59) (d_V (pc := 59) C (As := [.int a4]) (rest := [.int a3]) rb6 kb6 nt_15 q2520 yi_J2_get_java_util_ArrayList yk_J2_get rfl (by decide) (by decide) (Nat.le_trans (aw_i aw_0) (by decide)) rfl (mJ2_get C.st ex7) dX2_addEntry_59) ?_
      obtain ⟨_, e9, hf⟩ := oB hf
      refine v_cast (pc := 62) C q2521 ct__I e9 dX2_addEntry_62 ?_
      refine v_iconst (pc := 65) (v := (0 : Int32)) C dX2_addEntry_65 rfl ?_
      obtain ⟨x10, ex10, hf⟩ := oB hf
      refine v_iaload (pc := 66) C ex10 dX2_addEntry_66 ?_
      refine v_iload_n (pc := 67) (j := 1) C dX2_addEntry_67 rfl rfl ?_
      refine v_icmp_ne (pc := 68) (tgt := 75) C dX2_addEntry_68 rfl (fun hc => ?_) (fun hc => ?_)
      · simp only [if_neg hc] at hf
        refine v_iconst (pc := 75) (v := (0 : Int32)) C dX2_addEntry_75 rfl ?_
        exact V.sub [0, 1, 2, 4] rfl (vX2_addEntry_p76 X ih hf)
      · simp only [if_pos (Decidable.of_not_not hc)] at hf
        refine v_iconst (pc := 71) (v := (1 : Int32)) C dX2_addEntry_71 rfl ?_
        refine v_goto (pc := 72) (tgt := 76) C dX2_addEntry_72 rfl ?_
        exact V.sub [0, 1, 2, 4] rfl (vX2_addEntry_p76 X ih hf)
def fX2_addEntry (D : aD) (h : aH) (a0 : Option Nat) (a1 : Int32) (a2 : Int32) : Option (Int32 × aH) :=
  (pF D h 1 0 a0 (.int (0 : Int32))).bind fun h1 =>
  (aIs h1 1 a0).bind fun _ =>
  (fX2_noPanel D h1 a0 a1).bind fun x3 =>
  if x3 = 0 then
  ((fX2_in D h1 a2 (0 : Int32) (999999 : Int32)).bind fun x6 =>
  if x6 = 0 then
  ((aIs h1 1 a0).bind fun _ =>
  bnd2 (fX2_err D h1 a0 (2 : Int32)) fun x9 h10 =>
  some (x9, h10))
  else
  (fX2_addEntry_p40 D FU h1 a0 a1 a2 (0 : Int32) (0 : Int32)))
  else
  ((aIs h1 1 a0).bind fun _ =>
  bnd2 (fX2_err D h1 a0 (1 : Int32)) fun x12 h13 =>
  some (x12, h13))
theorem vX2_addEntry {h : aH} {a0 : Option Nat} {a1 : Int32} {a2 : Int32} {q : Int32} {g : aH} (X : aX p l R s m meth c D n0 s0 yX2_addEntry cX2_addEntry 7 152 5 (some .int) h0) (hf : fX2_addEntry D h a0 a1 a2 = some (q, g)) : V p l e R s m args below meth c D n0 s0 (aEnd D below args s h0 (.inr (some (.int q)), g)) h 0 [(0, false, va_rf a0), (1, false, .int a1), (2, false, .int a2)] [] := by
  have C := X.1
  unfold fX2_addEntry at hf
  refine v_aload_n (pc := 0) (j := 0) C dX2_addEntry_0 rfl rfl ?_
  refine v_iconst (pc := 1) (v := (0 : Int32)) C dX2_addEntry_1 rfl ?_
  obtain ⟨h1, eh1, hf⟩ := oB hf
  refine v_putF (pc := 2) C lk_X2_69 tyX2 tyX2_ok nmX2 (tyX2_ok 0 (by decide)) rfl rfl eh1 dX2_addEntry_2 ?_
  refine v_aload_n (pc := 5) (j := 0) C dX2_addEntry_5 rfl rfl ?_
  refine v_iload_n (pc := 6) (j := 1) C dX2_addEntry_6 rfl rfl ?_
  obtain ⟨b2, eb2, hf⟩ := oB hf
  obtain ⟨rb2, _, kb2⟩ := aIs_eq eb2
  obtain ⟨x3, ex3, hf⟩ := oB hf
  refine v_call (pc := 7) (d_V (pc := 7) C (As := [.int a1]) (rest := []) rb2 kb2 nt_1 q2508 yi_X2_noPanel_FigureSurveyModel yk_X2_noPanel rfl (by decide) (by decide) (Nat.le_trans aw_0 (by decide)) rfl (mX2_noPanel C.st ex3) dX2_addEntry_7) ?_
  refine v_if_eq (pc := 10) (tgt := 19) C dX2_addEntry_10 rfl (fun hc => ?_) (fun hc => ?_)
  · rw [if_pos hc] at hf
    refine v_iload_n (pc := 19) (j := 2) C dX2_addEntry_19 rfl rfl ?_
    refine v_iconst (pc := 20) (v := (0 : Int32)) C dX2_addEntry_20 rfl ?_
    refine v_ldc (pc := 21) (v := (999999 : Int32)) C q2800 dX2_addEntry_21 ?_
    obtain ⟨x6, ex6, hf⟩ := oB hf
    refine v_call (pc := 23) (d_S (pc := 23) C (As := [.int a2, .int (0 : Int32), .int (999999 : Int32)]) (rest := []) q2495 q2496 yk_X2_in rfl (by decide) (by decide) (Nat.le_trans aw_0 (by decide)) rfl (mX2_in C.st ex6) dX2_addEntry_23) ?_
    refine v_if_ne (pc := 26) (tgt := 35) C dX2_addEntry_26 rfl (fun hc => ?_) (fun hc => ?_)
    · rw [if_neg hc] at hf
      refine v_iconst (pc := 35) (v := (0 : Int32)) C dX2_addEntry_35 rfl ?_
      refine v_istore_n (pc := 36) (lv' := [(3, false, .int (0 : Int32)), (0, false, va_rf a0), (1, false, .int a1), (2, false, .int a2)]) C dX2_addEntry_36 rfl (by decide) rfl ?_
      refine v_iconst (pc := 37) (v := (0 : Int32)) C dX2_addEntry_37 rfl ?_
      refine v_istore (pc := 38) (lv' := [(4, false, .int (0 : Int32)), (3, false, .int (0 : Int32)), (0, false, va_rf a0), (1, false, .int a1), (2, false, .int a2)]) C dX2_addEntry_38 (by decide) rfl ?_
      exact V.sub [2, 3, 4, 1, 0] rfl (vX2_addEntry_p40 X _ _ _ _ _ _ _ _ _ hf)
    · rw [if_pos (Decidable.of_not_not hc)] at hf
      refine v_aload_n (pc := 29) (j := 0) C dX2_addEntry_29 rfl rfl ?_
      refine v_iconst (pc := 30) (v := (2 : Int32)) C dX2_addEntry_30 rfl ?_
      obtain ⟨b8, eb8, hf⟩ := oB hf
      obtain ⟨rb8, _, kb8⟩ := aIs_eq eb8
      obtain ⟨x9, h10, ex9, hf⟩ := bnd2_eq hf
      refine v_call (pc := 31) (d_V (pc := 31) C (As := [.int (2 : Int32)]) (rest := []) rb8 kb8 nt_1 q2498 yi_X2_err_FigureSurveyModel yk_X2_err rfl (by decide) (by decide) (Nat.le_trans aw_0 (by decide)) rfl (mX2_err C.st ex9) dX2_addEntry_31) ?_
      cases hf
      exact v_ireturn (pc := 34) C X.2.1 X.2.2.1 X.2.2.2.1 rfl dX2_addEntry_34
  · rw [if_neg hc] at hf
    refine v_aload_n (pc := 13) (j := 0) C dX2_addEntry_13 rfl rfl ?_
    refine v_iconst (pc := 14) (v := (1 : Int32)) C dX2_addEntry_14 rfl ?_
    obtain ⟨b11, eb11, hf⟩ := oB hf
    obtain ⟨rb11, _, kb11⟩ := aIs_eq eb11
    obtain ⟨x12, h13, ex12, hf⟩ := bnd2_eq hf
    refine v_call (pc := 15) (d_V (pc := 15) C (As := [.int (1 : Int32)]) (rest := []) rb11 kb11 nt_1 q2498 yi_X2_err_FigureSurveyModel yk_X2_err rfl (by decide) (by decide) (Nat.le_trans aw_0 (by decide)) rfl (mX2_err C.st ex12) dX2_addEntry_15) ?_
    cases hf
    exact v_ireturn (pc := 18) C X.2.1 X.2.2.1 X.2.2.2.1 rfl dX2_addEntry_18
theorem mX2_addEntry {l : Launch} {D : aD} {h : aH} {a0 : Option Nat} {a1 : Int32} {a2 : Int32} {q : Int32} {g : aH} (hst : l.stackTraces = false) (hf : fX2_addEntry D h a0 a1 a2 = some (q, g)) : aM l D yX2_addEntry cX2_addEntry 5 (some .int) 7 152 [va_rf a0, .int a1, .int a2] h (.inr (some (.int q)), g) :=
  aM.ofX [(false, va_rf a0), (false, .int a1), (false, .int a2)] rfl (ap_r (ap_c rfl (ap_c rfl ap_0))) (by decide +kernel) hst (al_of (aw_r (aw_i (aw_i aw_0))) (by decide)) fun p e s m args below meth c X => V.sub (lv' := [(0, false, va_rf a0), (1, false, .int a1), (2, false, .int a2)]) [0, 1, 2] rfl (vX2_addEntry X hf)
def fX2_figureFor_p101 (D : aD) (K62 : aH → (Option Nat) → Int32 → Int32 → Int32 → Int32 → (Option Nat) → (Option Nat) → Int32 → Option (Int32 × aH)) (h : aH) (a0 : Option Nat) (a1 : Int32) (a2 : Int32) (a3 : Int32) (a4 : Int32) (a5 : Option Nat) (a6 : Option Nat) (a7 : Int32) : Option (Int32 × aH) :=
  K62 h a0 a1 a2 a3 a4 a5 a6 (a7 + 1)
theorem vX2_figureFor_p101 {h : aH} {K62 : aH → (Option Nat) → Int32 → Int32 → Int32 → Int32 → (Option Nat) → (Option Nat) → Int32 → Option (Int32 × aH)} {a0 : Option Nat} {a1 : Int32} {a2 : Int32} {a3 : Int32} {a4 : Int32} {a5 : Option Nat} {a6 : Option Nat} {a7 : Int32} {q : Int32} {g : aH} (X : aX p l R s m meth c D n0 s0 yX2_figureFor cX2_figureFor 7 164 14 (some .int) h0) (k62 : ∀ (h : aH) (a0 : Option Nat) (a1 : Int32) (a2 : Int32) (a3 : Int32) (a4 : Int32) (a5 : Option Nat) (a6 : Option Nat) (a7 : Int32) (q : Int32) (g : aH), K62 h a0 a1 a2 a3 a4 a5 a6 a7 = some (q, g) → V p l e R s m args below meth c D n0 s0 (aEnd D below args s h0 (.inr (some (.int q)), g)) h 62 [(0, false, va_rf a0), (1, false, .int a1), (2, false, .int a2), (3, false, .int a3), (4, false, .int a4), (5, false, va_rf a5), (6, false, va_rf a6), (7, false, .int a7)] []) (hf : fX2_figureFor_p101 D K62 h a0 a1 a2 a3 a4 a5 a6 a7 = some (q, g)) : V p l e R s m args below meth c D n0 s0 (aEnd D below args s h0 (.inr (some (.int q)), g)) h 101 [(0, false, va_rf a0), (1, false, .int a1), (2, false, .int a2), (3, false, .int a3), (4, false, .int a4), (5, false, va_rf a5), (6, false, va_rf a6), (7, false, .int a7)] [] := by
  have C := X.1
  unfold fX2_figureFor_p101 at hf
  refine v_iinc (pc := 101) (j := 7) (v := (a7 + 1)) (lv' := [(7, false, .int (a7 + 1)), (0, false, va_rf a0), (1, false, .int a1), (2, false, .int a2), (3, false, .int a3), (4, false, .int a4), (5, false, va_rf a5), (6, false, va_rf a6)]) C dX2_figureFor_101 rfl rfl (by decide) rfl ?_
  refine v_goto (pc := 104) (tgt := 62) C dX2_figureFor_104 rfl ?_
  exact V.sub [1, 2, 3, 4, 5, 6, 7, 0] rfl (k62 _ _ _ _ _ _ _ _ _ _ _ hf)
def fX2_figureFor_p153 (D : aD) (K110 : aH → (Option Nat) → Int32 → Int32 → Int32 → Int32 → (Option Nat) → (Option Nat) → Int32 → Option (Int32 × aH)) (h : aH) (a0 : Option Nat) (a1 : Int32) (a2 : Int32) (a3 : Int32) (a4 : Int32) (a5 : Option Nat) (a6 : Option Nat) (a7 : Int32) : Option (Int32 × aH) :=
  K110 h a0 a1 a2 a3 a4 a5 a6 (a7 + 1)
theorem vX2_figureFor_p153 {h : aH} {K110 : aH → (Option Nat) → Int32 → Int32 → Int32 → Int32 → (Option Nat) → (Option Nat) → Int32 → Option (Int32 × aH)} {a0 : Option Nat} {a1 : Int32} {a2 : Int32} {a3 : Int32} {a4 : Int32} {a5 : Option Nat} {a6 : Option Nat} {a7 : Int32} {q : Int32} {g : aH} (X : aX p l R s m meth c D n0 s0 yX2_figureFor cX2_figureFor 7 164 14 (some .int) h0) (k110 : ∀ (h : aH) (a0 : Option Nat) (a1 : Int32) (a2 : Int32) (a3 : Int32) (a4 : Int32) (a5 : Option Nat) (a6 : Option Nat) (a7 : Int32) (q : Int32) (g : aH), K110 h a0 a1 a2 a3 a4 a5 a6 a7 = some (q, g) → V p l e R s m args below meth c D n0 s0 (aEnd D below args s h0 (.inr (some (.int q)), g)) h 110 [(0, false, va_rf a0), (1, false, .int a1), (2, false, .int a2), (3, false, .int a3), (4, false, .int a4), (5, false, va_rf a5), (6, false, va_rf a6), (7, false, .int a7)] []) (hf : fX2_figureFor_p153 D K110 h a0 a1 a2 a3 a4 a5 a6 a7 = some (q, g)) : V p l e R s m args below meth c D n0 s0 (aEnd D below args s h0 (.inr (some (.int q)), g)) h 153 [(0, false, va_rf a0), (1, false, .int a1), (2, false, .int a2), (3, false, .int a3), (4, false, .int a4), (5, false, va_rf a5), (6, false, va_rf a6), (7, false, .int a7)] [] := by
  have C := X.1
  unfold fX2_figureFor_p153 at hf
  refine v_iinc (pc := 153) (j := 7) (v := (a7 + 1)) (lv' := [(7, false, .int (a7 + 1)), (0, false, va_rf a0), (1, false, .int a1), (2, false, .int a2), (3, false, .int a3), (4, false, .int a4), (5, false, va_rf a5), (6, false, va_rf a6)]) C dX2_figureFor_153 rfl rfl (by decide) rfl ?_
  refine v_goto (pc := 156) (tgt := 110) C dX2_figureFor_156 rfl ?_
  exact V.sub [1, 2, 3, 4, 5, 6, 7, 0] rfl (k110 _ _ _ _ _ _ _ _ _ _ _ hf)
def fX2_figureFor_p318 (D : aD) (K191 : aH → (Option Nat) → Int32 → Int32 → Int32 → (Option Nat) → (Option Nat) → Int32 → Int32 → (Option Nat) → Int32 → Option (Int32 × aH)) (K199 : aH → (Option Nat) → Int32 → Int32 → Int32 → (Option Nat) → (Option Nat) → Int32 → Int32 → (Option Nat) → Int32 → Int32 → Option (Int32 × aH)) (K241 : aH → (Option Nat) → Int32 → Int32 → Int32 → (Option Nat) → (Option Nat) → Int32 → Int32 → (Option Nat) → Int32 → Int32 → Int32 → Int32 → Option (Int32 × aH)) (h : aH) (a0 : Option Nat) (a1 : Int32) (a3 : Int32) (a4 : Int32) (a5 : Option Nat) (a6 : Option Nat) (a7 : Int32) (a8 : Int32) (a9 : Option Nat) (a10 : Int32) (a11 : Int32) (a12 : Int32) (a13 : Int32) : Option (Int32 × aH) :=
  K241 h a0 a1 a3 a4 a5 a6 a7 a8 a9 a10 a11 a12 (a13 + 1)
theorem vX2_figureFor_p318 {h : aH} {K191 : aH → (Option Nat) → Int32 → Int32 → Int32 → (Option Nat) → (Option Nat) → Int32 → Int32 → (Option Nat) → Int32 → Option (Int32 × aH)} {K199 : aH → (Option Nat) → Int32 → Int32 → Int32 → (Option Nat) → (Option Nat) → Int32 → Int32 → (Option Nat) → Int32 → Int32 → Option (Int32 × aH)} {K241 : aH → (Option Nat) → Int32 → Int32 → Int32 → (Option Nat) → (Option Nat) → Int32 → Int32 → (Option Nat) → Int32 → Int32 → Int32 → Int32 → Option (Int32 × aH)} {a0 : Option Nat} {a1 : Int32} {a3 : Int32} {a4 : Int32} {a5 : Option Nat} {a6 : Option Nat} {a7 : Int32} {a8 : Int32} {a9 : Option Nat} {a10 : Int32} {a11 : Int32} {a12 : Int32} {a13 : Int32} {q : Int32} {g : aH} (X : aX p l R s m meth c D n0 s0 yX2_figureFor cX2_figureFor 7 164 14 (some .int) h0) (k191 : ∀ (h : aH) (a0 : Option Nat) (a1 : Int32) (a3 : Int32) (a4 : Int32) (a5 : Option Nat) (a6 : Option Nat) (a7 : Int32) (a8 : Int32) (a9 : Option Nat) (a10 : Int32) (q : Int32) (g : aH), K191 h a0 a1 a3 a4 a5 a6 a7 a8 a9 a10 = some (q, g) → V p l e R s m args below meth c D n0 s0 (aEnd D below args s h0 (.inr (some (.int q)), g)) h 191 [(0, false, va_rf a0), (1, false, .int a1), (3, false, .int a3), (4, false, .int a4), (5, false, va_rf a5), (6, false, va_rf a6), (7, false, .int a7), (8, false, .int a8), (9, false, va_rf a9), (10, false, .int a10)] []) (k199 : ∀ (h : aH) (a0 : Option Nat) (a1 : Int32) (a3 : Int32) (a4 : Int32) (a5 : Option Nat) (a6 : Option Nat) (a7 : Int32) (a8 : Int32) (a9 : Option Nat) (a10 : Int32) (a11 : Int32) (q : Int32) (g : aH), K199 h a0 a1 a3 a4 a5 a6 a7 a8 a9 a10 a11 = some (q, g) → V p l e R s m args below meth c D n0 s0 (aEnd D below args s h0 (.inr (some (.int q)), g)) h 199 [(0, false, va_rf a0), (1, false, .int a1), (3, false, .int a3), (4, false, .int a4), (5, false, va_rf a5), (6, false, va_rf a6), (7, false, .int a7), (8, false, .int a8), (9, false, va_rf a9), (10, false, .int a10), (11, false, .int a11)] []) (k241 : ∀ (h : aH) (a0 : Option Nat) (a1 : Int32) (a3 : Int32) (a4 : Int32) (a5 : Option Nat) (a6 : Option Nat) (a7 : Int32) (a8 : Int32) (a9 : Option Nat) (a10 : Int32) (a11 : Int32) (a12 : Int32) (a13 : Int32) (q : Int32) (g : aH), K241 h a0 a1 a3 a4 a5 a6 a7 a8 a9 a10 a11 a12 a13 = some (q, g) → V p l e R s m args below meth c D n0 s0 (aEnd D below args s h0 (.inr (some (.int q)), g)) h 241 [(0, false, va_rf a0), (1, false, .int a1), (3, false, .int a3), (4, false, .int a4), (5, false, va_rf a5), (6, false, va_rf a6), (7, false, .int a7), (8, false, .int a8), (9, false, va_rf a9), (10, false, .int a10), (11, false, .int a11), (12, false, .int a12), (13, false, .int a13)] []) (hf : fX2_figureFor_p318 D K191 K199 K241 h a0 a1 a3 a4 a5 a6 a7 a8 a9 a10 a11 a12 a13 = some (q, g)) : V p l e R s m args below meth c D n0 s0 (aEnd D below args s h0 (.inr (some (.int q)), g)) h 318 [(0, false, va_rf a0), (1, false, .int a1), (3, false, .int a3), (4, false, .int a4), (5, false, va_rf a5), (6, false, va_rf a6), (7, false, .int a7), (8, false, .int a8), (9, false, va_rf a9), (10, false, .int a10), (11, false, .int a11), (12, false, .int a12), (13, false, .int a13)] [] := by
  have C := X.1
  unfold fX2_figureFor_p318 at hf
  refine v_iinc (pc := 318) (j := 12) (v := (a13 + 1)) (lv' := [(13, false, .int (a13 + 1)), (0, false, va_rf a0), (1, false, .int a1), (3, false, .int a3), (4, false, .int a4), (5, false, va_rf a5), (6, false, va_rf a6), (7, false, .int a7), (8, false, .int a8), (9, false, va_rf a9), (10, false, .int a10), (11, false, .int a11), (12, false, .int a12)]) C dX2_figureFor_318 rfl rfl (by decide) rfl ?_
  refine v_goto (pc := 321) (tgt := 241) C dX2_figureFor_321 rfl ?_
  exact V.sub [1, 2, 3, 4, 5, 6, 7, 8, 9, 10, 11, 12, 0] rfl (k241 _ _ _ _ _ _ _ _ _ _ _ _ _ _ _ _ hf)
def fX2_figureFor_p324 (D : aD) (K191 : aH → (Option Nat) → Int32 → Int32 → Int32 → (Option Nat) → (Option Nat) → Int32 → Int32 → (Option Nat) → Int32 → Option (Int32 × aH)) (K199 : aH → (Option Nat) → Int32 → Int32 → Int32 → (Option Nat) → (Option Nat) → Int32 → Int32 → (Option Nat) → Int32 → Int32 → Option (Int32 × aH)) (h : aH) (a0 : Option Nat) (a1 : Int32) (a3 : Int32) (a4 : Int32) (a5 : Option Nat) (a6 : Option Nat) (a7 : Int32) (a8 : Int32) (a9 : Option Nat) (a10 : Int32) (a11 : Int32) (a12 : Int32) : Option (Int32 × aH) :=
  (eR h a9 a10).bind fun x1 =>
  (fJ11_min D h a8 a12).bind fun x3 =>
  (sF D h 100 x1 a11 (.int x3)).bind fun h5 =>
  K199 h5 a0 a1 a3 a4 a5 a6 a7 a8 a9 a10 (a11 + 1)
theorem vX2_figureFor_p324 {h : aH} {K191 : aH → (Option Nat) → Int32 → Int32 → Int32 → (Option Nat) → (Option Nat) → Int32 → Int32 → (Option Nat) → Int32 → Option (Int32 × aH)} {K199 : aH → (Option Nat) → Int32 → Int32 → Int32 → (Option Nat) → (Option Nat) → Int32 → Int32 → (Option Nat) → Int32 → Int32 → Option (Int32 × aH)} {a0 : Option Nat} {a1 : Int32} {a3 : Int32} {a4 : Int32} {a5 : Option Nat} {a6 : Option Nat} {a7 : Int32} {a8 : Int32} {a9 : Option Nat} {a10 : Int32} {a11 : Int32} {a12 : Int32} {q : Int32} {g : aH} (X : aX p l R s m meth c D n0 s0 yX2_figureFor cX2_figureFor 7 164 14 (some .int) h0) (k191 : ∀ (h : aH) (a0 : Option Nat) (a1 : Int32) (a3 : Int32) (a4 : Int32) (a5 : Option Nat) (a6 : Option Nat) (a7 : Int32) (a8 : Int32) (a9 : Option Nat) (a10 : Int32) (q : Int32) (g : aH), K191 h a0 a1 a3 a4 a5 a6 a7 a8 a9 a10 = some (q, g) → V p l e R s m args below meth c D n0 s0 (aEnd D below args s h0 (.inr (some (.int q)), g)) h 191 [(0, false, va_rf a0), (1, false, .int a1), (3, false, .int a3), (4, false, .int a4), (5, false, va_rf a5), (6, false, va_rf a6), (7, false, .int a7), (8, false, .int a8), (9, false, va_rf a9), (10, false, .int a10)] []) (k199 : ∀ (h : aH) (a0 : Option Nat) (a1 : Int32) (a3 : Int32) (a4 : Int32) (a5 : Option Nat) (a6 : Option Nat) (a7 : Int32) (a8 : Int32) (a9 : Option Nat) (a10 : Int32) (a11 : Int32) (q : Int32) (g : aH), K199 h a0 a1 a3 a4 a5 a6 a7 a8 a9 a10 a11 = some (q, g) → V p l e R s m args below meth c D n0 s0 (aEnd D below args s h0 (.inr (some (.int q)), g)) h 199 [(0, false, va_rf a0), (1, false, .int a1), (3, false, .int a3), (4, false, .int a4), (5, false, va_rf a5), (6, false, va_rf a6), (7, false, .int a7), (8, false, .int a8), (9, false, va_rf a9), (10, false, .int a10), (11, false, .int a11)] []) (hf : fX2_figureFor_p324 D K191 K199 h a0 a1 a3 a4 a5 a6 a7 a8 a9 a10 a11 a12 = some (q, g)) : V p l e R s m args below meth c D n0 s0 (aEnd D below args s h0 (.inr (some (.int q)), g)) h 324 [(0, false, va_rf a0), (1, false, .int a1), (3, false, .int a3), (4, false, .int a4), (5, false, va_rf a5), (6, false, va_rf a6), (7, false, .int a7), (8, false, .int a8), (9, false, va_rf a9), (10, false, .int a10), (11, false, .int a11), (12, false, .int a12)] [] := by
  have C := X.1
  unfold fX2_figureFor_p324 at hf
  refine v_aload (pc := 324) (j := 8) C dX2_figureFor_324 rfl ?_
  refine v_iload (pc := 326) (j := 9) C dX2_figureFor_326 rfl ?_
  obtain ⟨x1, ex1, hf⟩ := oB hf
  refine v_aaload (pc := 328) C ex1 dX2_figureFor_328 ?_
  refine v_iload (pc := 329) (j := 10) C dX2_figureFor_329 rfl ?_
  refine v_iload (pc := 331) (j := 7) C dX2_figureFor_331 rfl ?_
  refine v_iload (pc := 333) (j := 11) C dX2_figureFor_333 rfl ?_
  obtain ⟨x3, ex3, hf⟩ := oB hf
  refine v_call (pc := 335) (d_S (pc := 335) C (As := [.int a8, .int a12]) (rest := [.int a11, va_rf x1]) q2661 q477 yk_J11_min rfl (by decide) (by decide) (Nat.le_trans (aw_i (aw_r aw_0)) (by decide)) rfl (mJ11_min C.st ex3) dX2_figureFor_335) ?_
  obtain ⟨h5, eh5, hf⟩ := oB hf
  refine v_iastore (pc := 338) C eh5 dX2_figureFor_338 ?_
  refine v_iinc (pc := 339) (j := 10) (v := (a11 + 1)) (lv' := [(11, false, .int (a11 + 1)), (0, false, va_rf a0), (1, false, .int a1), (3, false, .int a3), (4, false, .int a4), (5, false, va_rf a5), (6, false, va_rf a6), (7, false, .int a7), (8, false, .int a8), (9, false, va_rf a9), (10, false, .int a10), (12, false, .int a12)]) C dX2_figureFor_339 rfl rfl (by decide) rfl ?_
  refine v_goto (pc := 342) (tgt := 199) C dX2_figureFor_342 rfl ?_
  exact V.sub [1, 2, 3, 4, 5, 6, 7, 8, 9, 10, 0] rfl (k199 _ _ _ _ _ _ _ _ _ _ _ _ _ _ hf)
def fX2_figureFor_p241 (D : aD) (K191 : aH → (Option Nat) → Int32 → Int32 → Int32 → (Option Nat) → (Option Nat) → Int32 → Int32 → (Option Nat) → Int32 → Option (Int32 × aH)) (K199 : aH → (Option Nat) → Int32 → Int32 → Int32 → (Option Nat) → (Option Nat) → Int32 → Int32 → (Option Nat) → Int32 → Int32 → Option (Int32 × aH)) : Nat → aH → (Option Nat) → Int32 → Int32 → Int32 → (Option Nat) → (Option Nat) → Int32 → Int32 → (Option Nat) → Int32 → Int32 → Int32 → Int32 → Option (Int32 × aH)
  | 0, _, _, _, _, _, _, _, _, _, _, _, _, _, _ => none
  | n + 1, h, a0, a1, a3, a4, a5, a6, a7, a8, a9, a10, a11, a12, a13 =>
  if a4 ≤ a13 then
  (fX2_figureFor_p324 D K191 K199 h a0 a1 a3 a4 a5 a6 a7 a8 a9 a10 a11 a12)
  else
  (if ((a11 >>> (a13 &&& 31)) &&& (1 : Int32)) = 0 then
  ((gR h 1 17 a0).bind fun x1 =>
  (eI h a5 a10).bind fun x2 =>
  (aIs h 15 x1).bind fun _ =>
  (fJ2_get D h x1 x2).bind fun x4 =>
  (aCast h [100] x4).bind fun _ =>
  (eI h x4 (1 : Int32)).bind fun x7 =>
  (gR h 1 9 a0).bind fun x8 =>
  (eI h a6 a13).bind fun x9 =>
  (aIs h 15 x8).bind fun _ =>
  (fJ2_get D h x8 x9).bind fun x11 =>
  (aCast h [100] x11).bind fun _ =>
  (eI h x11 (2 : Int32)).bind fun x14 =>
  (fX2_distance D h x7 x14).bind fun x16 =>
  (eR h a9 (a10 + (1 : Int32))).bind fun x18 =>
  (eI h x18 (a11 ||| ((1 : Int32) <<< (a13 &&& 31)))).bind fun x19 =>
  (fJ11_min D h a12 (x16 + x19)).bind fun x21 =>
  fX2_figureFor_p318 D K191 K199 (fX2_figureFor_p241 D K191 K199 n) h a0 a1 a3 a4 a5 a6 a7 a8 a9 a10 a11 x21 a13)
  else
  (fX2_figureFor_p318 D K191 K199 (fX2_figureFor_p241 D K191 K199 n) h a0 a1 a3 a4 a5 a6 a7 a8 a9 a10 a11 a12 a13))
theorem vX2_figureFor_p241 {K191 : aH → (Option Nat) → Int32 → Int32 → Int32 → (Option Nat) → (Option Nat) → Int32 → Int32 → (Option Nat) → Int32 → Option (Int32 × aH)} {K199 : aH → (Option Nat) → Int32 → Int32 → Int32 → (Option Nat) → (Option Nat) → Int32 → Int32 → (Option Nat) → Int32 → Int32 → Option (Int32 × aH)} (X : aX p l R s m meth c D n0 s0 yX2_figureFor cX2_figureFor 7 164 14 (some .int) h0) (k191 : ∀ (h : aH) (a0 : Option Nat) (a1 : Int32) (a3 : Int32) (a4 : Int32) (a5 : Option Nat) (a6 : Option Nat) (a7 : Int32) (a8 : Int32) (a9 : Option Nat) (a10 : Int32) (q : Int32) (g : aH), K191 h a0 a1 a3 a4 a5 a6 a7 a8 a9 a10 = some (q, g) → V p l e R s m args below meth c D n0 s0 (aEnd D below args s h0 (.inr (some (.int q)), g)) h 191 [(0, false, va_rf a0), (1, false, .int a1), (3, false, .int a3), (4, false, .int a4), (5, false, va_rf a5), (6, false, va_rf a6), (7, false, .int a7), (8, false, .int a8), (9, false, va_rf a9), (10, false, .int a10)] []) (k199 : ∀ (h : aH) (a0 : Option Nat) (a1 : Int32) (a3 : Int32) (a4 : Int32) (a5 : Option Nat) (a6 : Option Nat) (a7 : Int32) (a8 : Int32) (a9 : Option Nat) (a10 : Int32) (a11 : Int32) (q : Int32) (g : aH), K199 h a0 a1 a3 a4 a5 a6 a7 a8 a9 a10 a11 = some (q, g) → V p l e R s m args below meth c D n0 s0 (aEnd D below args s h0 (.inr (some (.int q)), g)) h 199 [(0, false, va_rf a0), (1, false, .int a1), (3, false, .int a3), (4, false, .int a4), (5, false, va_rf a5), (6, false, va_rf a6), (7, false, .int a7), (8, false, .int a8), (9, false, va_rf a9), (10, false, .int a10), (11, false, .int a11)] []) : ∀ (n : Nat) (h : aH) (a0 : Option Nat) (a1 : Int32) (a3 : Int32) (a4 : Int32) (a5 : Option Nat) (a6 : Option Nat) (a7 : Int32) (a8 : Int32) (a9 : Option Nat) (a10 : Int32) (a11 : Int32) (a12 : Int32) (a13 : Int32) (q : Int32) (g : aH), fX2_figureFor_p241 D K191 K199 n h a0 a1 a3 a4 a5 a6 a7 a8 a9 a10 a11 a12 a13 = some (q, g) → V p l e R s m args below meth c D n0 s0 (aEnd D below args s h0 (.inr (some (.int q)), g)) h 241 [(0, false, va_rf a0), (1, false, .int a1), (3, false, .int a3), (4, false, .int a4), (5, false, va_rf a5), (6, false, va_rf a6), (7, false, .int a7), (8, false, .int a8), (9, false, va_rf a9), (10, false, .int a10), (11, false, .int a11), (12, false, .int a12), (13, false, .int a13)] [] := by
  have C := X.1
  intro n
  induction n with
  | zero =>
    intro _ _ _ _ _ _ _ _ _ _ _ _ _ _ _ _ hf
    rw [fX2_figureFor_p241] at hf
    cases hf
  | succ n ih =>
    intro h a0 a1 a3 a4 a5 a6 a7 a8 a9 a10 a11 a12 a13 q g hf
    rw [fX2_figureFor_p241] at hf
    refine v_iload (pc := 241) (j := 12) C dX2_figureFor_241 rfl ?_
    refine v_iload (pc := 243) (j := 3) C dX2_figureFor_243 rfl ?_
    refine v_icmp_ge (pc := 245) (tgt := 324) C dX2_figureFor_245 rfl (fun hc => ?_) (fun hc => ?_)
    · rw [if_pos hc] at hf
      exact V.sub [0, 1, 2, 3, 4, 5, 6, 7, 8, 9, 10, 11] rfl (vX2_figureFor_p324 X k191 k199 hf)
    · rw [if_neg hc] at hf
      refine v_iload (pc := 248) (j := 10) C dX2_figureFor_248 rfl ?_
      refine v_iload (pc := 250) (j := 12) C dX2_figureFor_250 rfl ?_
      refine v_ishr (pc := 252) C dX2_figureFor_252 ?_
      refine v_iconst (pc := 253) (v := (1 : Int32)) C dX2_figureFor_253 rfl ?_
      refine v_iand (pc := 254) C dX2_figureFor_254 ?_
      refine v_if_ne (pc := 255) (tgt := 318) C dX2_figureFor_255 rfl (fun hc => ?_) (fun hc => ?_)
      · rw [if_neg hc] at hf
        exact V.sub [0, 1, 2, 3, 4, 5, 6, 7, 8, 9, 10, 11, 12] rfl (vX2_figureFor_p318 X k191 k199 ih hf)
      · rw [if_pos (Decidable.of_not_not hc)] at hf
        refine v_iload (pc := 258) (j := 11) C dX2_figureFor_258 rfl ?_
        refine v_aload_n (pc := 260) (j := 0) C dX2_figureFor_260 rfl rfl ?_
        obtain ⟨x1, ex1, hf⟩ := oB hf
        refine v_getF (pc := 261) C lk_X2_60 (gR_eq ex1) dX2_figureFor_261 ?_
        refine v_aload (pc := 264) (j := 4) C dX2_figureFor_264 rfl ?_
        refine v_iload (pc := 266) (j := 9) C dX2_figureFor_266 rfl ?_
        obtain ⟨x2, ex2, hf⟩ := oB hf
        refine v_iaload (pc := 268) C ex2 dX2_figureFor_268 ?_
        obtain ⟨b3, eb3, hf⟩ := oB hf
        obtain ⟨rb3, _, kb3⟩ := aIs_eq eb3
        obtain ⟨x4, ex4, hf⟩ := oB hf
        refine v_call (pc := 269) (d_V (pc := 269) C (As := [.int x2]) (rest := [.int a12]) rb3 kb3 nt_15 q2520 yi_J2_get_java_util_ArrayList yk_J2_get rfl (by decide) (by decide) (Nat.le_trans (aw_i aw_0) (by decide)) rfl (mJ2_get C.st ex4) dX2_figureFor_269) ?_
        obtain ⟨_, e6, hf⟩ := oB hf
        refine v_cast (pc := 272) C q2521 ct__I e6 dX2_figureFor_272 ?_
        refine v_iconst (pc := 275) (v := (1 : Int32)) C dX2_figureFor_275 rfl ?_
        obtain ⟨x7, ex7, hf⟩ := oB hf
        refine v_iaload (pc := 276) C ex7 dX2_figureFor_276 ?_
        refine v_aload_n (pc := 277) (j := 0) C dX2_figureFor_277 rfl rfl ?_
        obtain ⟨x8, ex8, hf⟩ := oB hf
        refine v_getF (pc := 278) C lk_X2_33 (gR_eq ex8) dX2_figureFor_278 ?_
        refine v_aload (pc := 281) (j := 5) C dX2_figureFor_281 rfl ?_
        refine v_iload (pc := 283) (j := 12) C dX2_figureFor_283 rfl ?_
        obtain ⟨x9, ex9, hf⟩ := oB hf
        refine v_iaload (pc := 285) C ex9 dX2_figureFor_285 ?_
        obtain ⟨b10, eb10, hf⟩ := oB hf
        obtain ⟨rb10, _, kb10⟩ := aIs_eq eb10
        obtain ⟨x11, ex11, hf⟩ := oB hf
        refine v_call (pc := 286) (d_V (pc := 286) C (As := [.int x9]) (rest := [.int x7, .int a12]) rb10 kb10 nt_15 q2520 yi_J2_get_java_util_ArrayList yk_J2_get rfl (by decide) (by decide) (Nat.le_trans (aw_i (aw_i aw_0)) (by decide)) rfl (mJ2_get C.st ex11) dX2_figureFor_286) ?_
        obtain ⟨_, e13, hf⟩ := oB hf
        refine v_cast (pc := 289) C q2521 ct__I e13 dX2_figureFor_289 ?_
        refine v_iconst (pc := 292) (v := (2 : Int32)) C dX2_figureFor_292 rfl ?_
        obtain ⟨x14, ex14, hf⟩ := oB hf
        refine v_iaload (pc := 293) C ex14 dX2_figureFor_293 ?_
        obtain ⟨x16, ex16, hf⟩ := oB hf
        refine v_call (pc := 294) (d_S (pc := 294) C (As := [.int x7, .int x14]) (rest := [.int a12]) q2807 q2808 yk_X2_distance rfl (by decide) (by decide) (Nat.le_trans (aw_i aw_0) (by decide)) rfl (mX2_distance C.st ex16) dX2_figureFor_294) ?_
        refine v_aload (pc := 297) (j := 8) C dX2_figureFor_297 rfl ?_
        refine v_iload (pc := 299) (j := 9) C dX2_figureFor_299 rfl ?_
        refine v_iconst (pc := 301) (v := (1 : Int32)) C dX2_figureFor_301 rfl ?_
        refine v_iadd (pc := 302) C dX2_figureFor_302 ?_
        obtain ⟨x18, ex18, hf⟩ := oB hf
        refine v_aaload (pc := 303) C ex18 dX2_figureFor_303 ?_
        refine v_iload (pc := 304) (j := 10) C dX2_figureFor_304 rfl ?_
        refine v_iconst (pc := 306) (v := (1 : Int32)) C dX2_figureFor_306 rfl ?_
        refine v_iload (pc := 307) (j := 12) C dX2_figureFor_307 rfl ?_
        refine v_ishl (pc := 309) C dX2_figureFor_309 ?_
        refine v_ior (pc := 310) C dX2_figureFor_310 ?_
        obtain ⟨x19, ex19, hf⟩ := oB hf
        refine v_iaload (pc := 311) C ex19 dX2_figureFor_311 ?_
        refine v_iadd (pc := 312) C dX2_figureFor_312 ?_
        obtain ⟨x21, ex21, hf⟩ := oB hf
        refine v_call (pc := 313) (d_S (pc := 313) C (As := [.int a12, .int (x16 + x19)]) (rest := []) q2661 q477 yk_J11_min rfl (by decide) (by decide) (Nat.le_trans aw_0 (by decide)) rfl (mJ11_min C.st ex21) dX2_figureFor_313) ?_
        refine v_istore (pc := 316) (lv' := [(12, false, .int x21), (0, false, va_rf a0), (1, false, .int a1), (3, false, .int a3), (4, false, .int a4), (5, false, va_rf a5), (6, false, va_rf a6), (7, false, .int a7), (8, false, .int a8), (9, false, va_rf a9), (10, false, .int a10), (11, false, .int a11), (13, false, .int a13)]) C dX2_figureFor_316 (by decide) rfl ?_
        exact V.sub [1, 2, 3, 4, 5, 6, 7, 8, 9, 10, 11, 0, 12] rfl (vX2_figureFor_p318 X k191 k199 ih hf)
def fX2_figureFor_p236 (D : aD) (K191 : aH → (Option Nat) → Int32 → Int32 → Int32 → (Option Nat) → (Option Nat) → Int32 → Int32 → (Option Nat) → Int32 → Option (Int32 × aH)) (K199 : aH → (Option Nat) → Int32 → Int32 → Int32 → (Option Nat) → (Option Nat) → Int32 → Int32 → (Option Nat) → Int32 → Int32 → Option (Int32 × aH)) (h : aH) (a0 : Option Nat) (a1 : Int32) (a3 : Int32) (a4 : Int32) (a5 : Option Nat) (a6 : Option Nat) (a7 : Int32) (a8 : Int32) (a9 : Option Nat) (a10 : Int32) (a11 : Int32) (t0 : Int32) : Option (Int32 × aH) :=
  fX2_figureFor_p241 D K191 K199 FU h a0 a1 a3 a4 a5 a6 a7 a8 a9 a10 a11 t0 (0 : Int32)
theorem vX2_figureFor_p236 {h : aH} {K191 : aH → (Option Nat) → Int32 → Int32 → Int32 → (Option Nat) → (Option Nat) → Int32 → Int32 → (Option Nat) → Int32 → Option (Int32 × aH)} {K199 : aH → (Option Nat) → Int32 → Int32 → Int32 → (Option Nat) → (Option Nat) → Int32 → Int32 → (Option Nat) → Int32 → Int32 → Option (Int32 × aH)} {a0 : Option Nat} {a1 : Int32} {a3 : Int32} {a4 : Int32} {a5 : Option Nat} {a6 : Option Nat} {a7 : Int32} {a8 : Int32} {a9 : Option Nat} {a10 : Int32} {a11 : Int32} {t0 : Int32} {q : Int32} {g : aH} (X : aX p l R s m meth c D n0 s0 yX2_figureFor cX2_figureFor 7 164 14 (some .int) h0) (k191 : ∀ (h : aH) (a0 : Option Nat) (a1 : Int32) (a3 : Int32) (a4 : Int32) (a5 : Option Nat) (a6 : Option Nat) (a7 : Int32) (a8 : Int32) (a9 : Option Nat) (a10 : Int32) (q : Int32) (g : aH), K191 h a0 a1 a3 a4 a5 a6 a7 a8 a9 a10 = some (q, g) → V p l e R s m args below meth c D n0 s0 (aEnd D below args s h0 (.inr (some (.int q)), g)) h 191 [(0, false, va_rf a0), (1, false, .int a1), (3, false, .int a3), (4, false, .int a4), (5, false, va_rf a5), (6, false, va_rf a6), (7, false, .int a7), (8, false, .int a8), (9, false, va_rf a9), (10, false, .int a10)] []) (k199 : ∀ (h : aH) (a0 : Option Nat) (a1 : Int32) (a3 : Int32) (a4 : Int32) (a5 : Option Nat) (a6 : Option Nat) (a7 : Int32) (a8 : Int32) (a9 : Option Nat) (a10 : Int32) (a11 : Int32) (q : Int32) (g : aH), K199 h a0 a1 a3 a4 a5 a6 a7 a8 a9 a10 a11 = some (q, g) → V p l e R s m args below meth c D n0 s0 (aEnd D below args s h0 (.inr (some (.int q)), g)) h 199 [(0, false, va_rf a0), (1, false, .int a1), (3, false, .int a3), (4, false, .int a4), (5, false, va_rf a5), (6, false, va_rf a6), (7, false, .int a7), (8, false, .int a8), (9, false, va_rf a9), (10, false, .int a10), (11, false, .int a11)] []) (hf : fX2_figureFor_p236 D K191 K199 h a0 a1 a3 a4 a5 a6 a7 a8 a9 a10 a11 t0 = some (q, g)) : V p l e R s m args below meth c D n0 s0 (aEnd D below args s h0 (.inr (some (.int q)), g)) h 236 [(0, false, va_rf a0), (1, false, .int a1), (3, false, .int a3), (4, false, .int a4), (5, false, va_rf a5), (6, false, va_rf a6), (7, false, .int a7), (8, false, .int a8), (9, false, va_rf a9), (10, false, .int a10), (11, false, .int a11)] [.int t0] := by
  have C := X.1
  unfold fX2_figureFor_p236 at hf
  refine v_istore (pc := 236) (lv' := [(12, false, .int t0), (0, false, va_rf a0), (1, false, .int a1), (3, false, .int a3), (4, false, .int a4), (5, false, va_rf a5), (6, false, va_rf a6), (7, false, .int a7), (8, false, .int a8), (9, false, va_rf a9), (10, false, .int a10), (11, false, .int a11)]) C dX2_figureFor_236 (by decide) rfl ?_
  refine v_iconst (pc := 238) (v := (0 : Int32)) C dX2_figureFor_238 rfl ?_
  refine v_istore (pc := 239) (lv' := [(13, false, .int (0 : Int32)), (12, false, .int t0), (0, false, va_rf a0), (1, false, .int a1), (3, false, .int a3), (4, false, .int a4), (5, false, va_rf a5), (6, false, va_rf a6), (7, false, .int a7), (8, false, .int a8), (9, false, va_rf a9), (10, false, .int a10), (11, false, .int a11)]) C dX2_figureFor_239 (by decide) rfl ?_
  exact V.sub [2, 3, 4, 5, 6, 7, 8, 9, 10, 11, 12, 1, 0] rfl (vX2_figureFor_p241 X k191 k199 _ _ _ _ _ _ _ _ _ _ _ _ _ _ _ _ _ hf)
def fX2_figureFor_p345 (D : aD) (K191 : aH → (Option Nat) → Int32 → Int32 → Int32 → (Option Nat) → (Option Nat) → Int32 → Int32 → (Option Nat) → Int32 → Option (Int32 × aH)) (h : aH) (a0 : Option Nat) (a1 : Int32) (a3 : Int32) (a4 : Int32) (a5 : Option Nat) (a6 : Option Nat) (a7 : Int32) (a8 : Int32) (a9 : Option Nat) (a10 : Int32) : Option (Int32 × aH) :=
  K191 h a0 a1 a3 a4 a5 a6 a7 a8 a9 (a10 + (-1))
theorem vX2_figureFor_p345 {h : aH} {K191 : aH → (Option Nat) → Int32 → Int32 → Int32 → (Option Nat) → (Option Nat) → Int32 → Int32 → (Option Nat) → Int32 → Option (Int32 × aH)} {a0 : Option Nat} {a1 : Int32} {a3 : Int32} {a4 : Int32} {a5 : Option Nat} {a6 : Option Nat} {a7 : Int32} {a8 : Int32} {a9 : Option Nat} {a10 : Int32} {q : Int32} {g : aH} (X : aX p l R s m meth c D n0 s0 yX2_figureFor cX2_figureFor 7 164 14 (some .int) h0) (k191 : ∀ (h : aH) (a0 : Option Nat) (a1 : Int32) (a3 : Int32) (a4 : Int32) (a5 : Option Nat) (a6 : Option Nat) (a7 : Int32) (a8 : Int32) (a9 : Option Nat) (a10 : Int32) (q : Int32) (g : aH), K191 h a0 a1 a3 a4 a5 a6 a7 a8 a9 a10 = some (q, g) → V p l e R s m args below meth c D n0 s0 (aEnd D below args s h0 (.inr (some (.int q)), g)) h 191 [(0, false, va_rf a0), (1, false, .int a1), (3, false, .int a3), (4, false, .int a4), (5, false, va_rf a5), (6, false, va_rf a6), (7, false, .int a7), (8, false, .int a8), (9, false, va_rf a9), (10, false, .int a10)] []) (hf : fX2_figureFor_p345 D K191 h a0 a1 a3 a4 a5 a6 a7 a8 a9 a10 = some (q, g)) : V p l e R s m args below meth c D n0 s0 (aEnd D below args s h0 (.inr (some (.int q)), g)) h 345 [(0, false, va_rf a0), (1, false, .int a1), (3, false, .int a3), (4, false, .int a4), (5, false, va_rf a5), (6, false, va_rf a6), (7, false, .int a7), (8, false, .int a8), (9, false, va_rf a9), (10, false, .int a10)] [] := by
  have C := X.1
  unfold fX2_figureFor_p345 at hf
  refine v_iinc (pc := 345) (j := 9) (v := (a10 + (-1))) (lv' := [(10, false, .int (a10 + (-1))), (0, false, va_rf a0), (1, false, .int a1), (3, false, .int a3), (4, false, .int a4), (5, false, va_rf a5), (6, false, va_rf a6), (7, false, .int a7), (8, false, .int a8), (9, false, va_rf a9)]) C dX2_figureFor_345 rfl rfl (by decide) rfl ?_
  refine v_goto (pc := 348) (tgt := 191) C dX2_figureFor_348 rfl ?_
  exact V.sub [1, 2, 3, 4, 5, 6, 7, 8, 9, 0] rfl (k191 _ _ _ _ _ _ _ _ _ _ _ _ _ hf)
def fX2_figureFor_p199 (D : aD) (K191 : aH → (Option Nat) → Int32 → Int32 → Int32 → (Option Nat) → (Option Nat) → Int32 → Int32 → (Option Nat) → Int32 → Option (Int32 × aH)) : Nat → aH → (Option Nat) → Int32 → Int32 → Int32 → (Option Nat) → (Option Nat) → Int32 → Int32 → (Option Nat) → Int32 → Int32 → Option (Int32 × aH)
  | 0, _, _, _, _, _, _, _, _, _, _, _, _ => none
  | n + 1, h, a0, a1, a3, a4, a5, a6, a7, a8, a9, a10, a11 =>
  if ((1 : Int32) <<< (a4 &&& 31)) ≤ a11 then
  (fX2_figureFor_p345 D K191 h a0 a1 a3 a4 a5 a6 a7 a8 a9 a10)
  else
  ((fJ19_bitCount D h a11).bind fun x2 =>
  if a7 ≤ (a10 - x2) then
  (fX2_figureFor_p236 D K191 (fX2_figureFor_p199 D K191 n) h a0 a1 a3 a4 a5 a6 a7 a8 a9 a10 a11 a8)
  else
  ((eR h a9 (a10 + (1 : Int32))).bind fun x4 =>
  (eI h x4 a11).bind fun x5 =>
  fX2_figureFor_p236 D K191 (fX2_figureFor_p199 D K191 n) h a0 a1 a3 a4 a5 a6 a7 a8 a9 a10 a11 x5))
theorem vX2_figureFor_p199 {K191 : aH → (Option Nat) → Int32 → Int32 → Int32 → (Option Nat) → (Option Nat) → Int32 → Int32 → (Option Nat) → Int32 → Option (Int32 × aH)} (X : aX p l R s m meth c D n0 s0 yX2_figureFor cX2_figureFor 7 164 14 (some .int) h0) (k191 : ∀ (h : aH) (a0 : Option Nat) (a1 : Int32) (a3 : Int32) (a4 : Int32) (a5 : Option Nat) (a6 : Option Nat) (a7 : Int32) (a8 : Int32) (a9 : Option Nat) (a10 : Int32) (q : Int32) (g : aH), K191 h a0 a1 a3 a4 a5 a6 a7 a8 a9 a10 = some (q, g) → V p l e R s m args below meth c D n0 s0 (aEnd D below args s h0 (.inr (some (.int q)), g)) h 191 [(0, false, va_rf a0), (1, false, .int a1), (3, false, .int a3), (4, false, .int a4), (5, false, va_rf a5), (6, false, va_rf a6), (7, false, .int a7), (8, false, .int a8), (9, false, va_rf a9), (10, false, .int a10)] []) : ∀ (n : Nat) (h : aH) (a0 : Option Nat) (a1 : Int32) (a3 : Int32) (a4 : Int32) (a5 : Option Nat) (a6 : Option Nat) (a7 : Int32) (a8 : Int32) (a9 : Option Nat) (a10 : Int32) (a11 : Int32) (q : Int32) (g : aH), fX2_figureFor_p199 D K191 n h a0 a1 a3 a4 a5 a6 a7 a8 a9 a10 a11 = some (q, g) → V p l e R s m args below meth c D n0 s0 (aEnd D below args s h0 (.inr (some (.int q)), g)) h 199 [(0, false, va_rf a0), (1, false, .int a1), (3, false, .int a3), (4, false, .int a4), (5, false, va_rf a5), (6, false, va_rf a6), (7, false, .int a7), (8, false, .int a8), (9, false, va_rf a9), (10, false, .int a10), (11, false, .int a11)] [] := by
  have C := X.1
  intro n
  induction n with
  | zero =>
    intro _ _ _ _ _ _ _ _ _ _ _ _ _ _ hf
    rw [fX2_figureFor_p199] at hf
    cases hf
  | succ n ih =>
    intro h a0 a1 a3 a4 a5 a6 a7 a8 a9 a10 a11 q g hf
    rw [fX2_figureFor_p199] at hf
    refine v_iload (pc := 199) (j := 10) C dX2_figureFor_199 rfl ?_
    refine v_iconst (pc := 201) (v := (1 : Int32)) C dX2_figureFor_201 rfl ?_
    refine v_iload (pc := 202) (j := 3) C dX2_figureFor_202 rfl ?_
    refine v_ishl (pc := 204) C dX2_figureFor_204 ?_
    refine v_icmp_ge (pc := 205) (tgt := 345) C dX2_figureFor_205 rfl (fun hc => ?_) (fun hc => ?_)
    · rw [if_pos hc] at hf
      exact V.sub [0, 1, 2, 3, 4, 5, 6, 7, 8, 9] rfl (vX2_figureFor_p345 X k191 hf)
    · rw [if_neg hc] at hf
      refine v_iload (pc := 208) (j := 9) C dX2_figureFor_208 rfl ?_
      refine v_iload (pc := 210) (j := 10) C dX2_figureFor_210 rfl ?_
      obtain ⟨x2, ex2, hf⟩ := oB hf
      refine v_call (pc := 212) (d_S (pc := 212) C (As := [.int a11]) (rest := [.int a10]) q2526 q403 yk_J19_bitCount rfl (by decide) (by decide) (Nat.le_trans (aw_i aw_0) (by decide)) rfl (mJ19_bitCount C.st ex2) dX2_figureFor_212) ?_
      refine v_isub (pc := 215) C dX2_figureFor_215 ?_
      refine v_iload (pc := 216) (j := 6) C dX2_figureFor_216 rfl ?_
      refine v_icmp_ge (pc := 218) (tgt := 234) C dX2_figureFor_218 rfl (fun hc => ?_) (fun hc => ?_)
      · rw [if_pos hc] at hf
        refine v_iload (pc := 234) (j := 7) C dX2_figureFor_234 rfl ?_
        exact V.sub [0, 1, 2, 3, 4, 5, 6, 7, 8, 9, 10] rfl (vX2_figureFor_p236 X k191 ih hf)
      · rw [if_neg hc] at hf
        refine v_aload (pc := 221) (j := 8) C dX2_figureFor_221 rfl ?_
        refine v_iload (pc := 223) (j := 9) C dX2_figureFor_223 rfl ?_
        refine v_iconst (pc := 225) (v := (1 : Int32)) C dX2_figureFor_225 rfl ?_
        refine v_iadd (pc := 226) C dX2_figureFor_226 ?_
        obtain ⟨x4, ex4, hf⟩ := oB hf
        refine v_aaload (pc := 227) C ex4 dX2_figureFor_227 ?_
        refine v_iload (pc := 228) (j := 10) C dX2_figureFor_228 rfl ?_
        obtain ⟨x5, ex5, hf⟩ := oB hf
        refine v_iaload (pc := 230) C ex5 dX2_figureFor_230 ?_
        refine v_goto (pc := 231) (tgt := 236) C dX2_figureFor_231 rfl ?_
        exact V.sub [0, 1, 2, 3, 4, 5, 6, 7, 8, 9, 10] rfl (vX2_figureFor_p236 X k191 ih hf)
def fX2_figureFor_p448 (D : aD) (K357 : aH → (Option Nat) → Int32 → Int32 → Int32 → (Option Nat) → (Option Nat) → (Option Nat) → Int32 → Int32 → Option (Int32 × aH)) (K366 : aH → (Option Nat) → Int32 → Int32 → Int32 → (Option Nat) → (Option Nat) → (Option Nat) → Int32 → Int32 → Int32 → Option (Int32 × aH)) (h : aH) (a0 : Option Nat) (a1 : Int32) (a3 : Int32) (a4 : Int32) (a5 : Option Nat) (a6 : Option Nat) (a9 : Option Nat) (a10 : Int32) (a11 : Int32) (a12 : Int32) : Option (Int32 × aH) :=
  K366 h a0 a1 a3 a4 a5 a6 a9 a10 a11 (a12 + 1)
theorem vX2_figureFor_p448 {h : aH} {K357 : aH → (Option Nat) → Int32 → Int32 → Int32 → (Option Nat) → (Option Nat) → (Option Nat) → Int32 → Int32 → Option (Int32 × aH)} {K366 : aH → (Option Nat) → Int32 → Int32 → Int32 → (Option Nat) → (Option Nat) → (Option Nat) → Int32 → Int32 → Int32 → Option (Int32 × aH)} {a0 : Option Nat} {a1 : Int32} {a3 : Int32} {a4 : Int32} {a5 : Option Nat} {a6 : Option Nat} {a9 : Option Nat} {a10 : Int32} {a11 : Int32} {a12 : Int32} {q : Int32} {g : aH} (X : aX p l R s m meth c D n0 s0 yX2_figureFor cX2_figureFor 7 164 14 (some .int) h0) (k357 : ∀ (h : aH) (a0 : Option Nat) (a1 : Int32) (a3 : Int32) (a4 : Int32) (a5 : Option Nat) (a6 : Option Nat) (a9 : Option Nat) (a10 : Int32) (a11 : Int32) (q : Int32) (g : aH), K357 h a0 a1 a3 a4 a5 a6 a9 a10 a11 = some (q, g) → V p l e R s m args below meth c D n0 s0 (aEnd D below args s h0 (.inr (some (.int q)), g)) h 357 [(0, false, va_rf a0), (1, false, .int a1), (3, false, .int a3), (4, false, .int a4), (5, false, va_rf a5), (6, false, va_rf a6), (9, false, va_rf a9), (10, false, .int a10), (11, false, .int a11)] []) (k366 : ∀ (h : aH) (a0 : Option Nat) (a1 : Int32) (a3 : Int32) (a4 : Int32) (a5 : Option Nat) (a6 : Option Nat) (a9 : Option Nat) (a10 : Int32) (a11 : Int32) (a12 : Int32) (q : Int32) (g : aH), K366 h a0 a1 a3 a4 a5 a6 a9 a10 a11 a12 = some (q, g) → V p l e R s m args below meth c D n0 s0 (aEnd D below args s h0 (.inr (some (.int q)), g)) h 366 [(0, false, va_rf a0), (1, false, .int a1), (3, false, .int a3), (4, false, .int a4), (5, false, va_rf a5), (6, false, va_rf a6), (9, false, va_rf a9), (10, false, .int a10), (11, false, .int a11), (12, false, .int a12)] []) (hf : fX2_figureFor_p448 D K357 K366 h a0 a1 a3 a4 a5 a6 a9 a10 a11 a12 = some (q, g)) : V p l e R s m args below meth c D n0 s0 (aEnd D below args s h0 (.inr (some (.int q)), g)) h 448 [(0, false, va_rf a0), (1, false, .int a1), (3, false, .int a3), (4, false, .int a4), (5, false, va_rf a5), (6, false, va_rf a6), (9, false, va_rf a9), (10, false, .int a10), (11, false, .int a11), (12, false, .int a12)] [] := by
  have C := X.1
  unfold fX2_figureFor_p448 at hf
  refine v_iinc (pc := 448) (j := 9) (v := (a12 + 1)) (lv' := [(12, false, .int (a12 + 1)), (0, false, va_rf a0), (1, false, .int a1), (3, false, .int a3), (4, false, .int a4), (5, false, va_rf a5), (6, false, va_rf a6), (9, false, va_rf a9), (10, false, .int a10), (11, false, .int a11)]) C dX2_figureFor_448 rfl rfl (by decide) rfl ?_
  refine v_goto (pc := 451) (tgt := 366) C dX2_figureFor_451 rfl ?_
  exact V.sub [1, 2, 3, 4, 5, 6, 7, 8, 9, 0] rfl (k366 _ _ _ _ _ _ _ _ _ _ _ _ _ hf)
def fX2_figureFor_p463 (D : aD) (h : aH) (a4 : Int32) (a6 : Option Nat) (a12 : Int32) : Option (Int32 × aH) :=
  if a4 ≤ a12 then
  (some ((-1 : Int32), h))
  else
  ((eI h a6 a12).bind fun x1 =>
  some (x1, h))
theorem vX2_figureFor_p463 {h : aH} {a4 : Int32} {a6 : Option Nat} {a12 : Int32} {q : Int32} {g : aH} (X : aX p l R s m meth c D n0 s0 yX2_figureFor cX2_figureFor 7 164 14 (some .int) h0) (hf : fX2_figureFor_p463 D h a4 a6 a12 = some (q, g)) : V p l e R s m args below meth c D n0 s0 (aEnd D below args s h0 (.inr (some (.int q)), g)) h 463 [(4, false, .int a4), (6, false, va_rf a6), (12, false, .int a12)] [] := by
  have C := X.1
  unfold fX2_figureFor_p463 at hf
  refine v_iload (pc := 463) (j := 2) C dX2_figureFor_463 rfl ?_
  refine v_iload (pc := 465) (j := 0) C dX2_figureFor_465 rfl ?_
  refine v_icmp_ge (pc := 467) (tgt := 478) C dX2_figureFor_467 rfl (fun hc => ?_) (fun hc => ?_)
  · rw [if_pos hc] at hf
    refine v_iconst (pc := 478) (v := (-1 : Int32)) C dX2_figureFor_478 rfl ?_
    cases hf
    exact v_ireturn (pc := 479) C X.2.1 X.2.2.1 X.2.2.2.1 rfl dX2_figureFor_479
  · rw [if_neg hc] at hf
    refine v_aload (pc := 470) (j := 1) C dX2_figureFor_470 rfl ?_
    refine v_iload (pc := 472) (j := 2) C dX2_figureFor_472 rfl ?_
    obtain ⟨x1, ex1, hf⟩ := oB hf
    refine v_iaload (pc := 474) C ex1 dX2_figureFor_474 ?_
    refine v_goto (pc := 475) (tgt := 479) C dX2_figureFor_475 rfl ?_
    cases hf
    exact v_ireturn (pc := 479) C X.2.1 X.2.2.1 X.2.2.2.1 rfl dX2_figureFor_479
def fX2_figureFor_p496 (D : aD) (K357 : aH → (Option Nat) → Int32 → Int32 → Int32 → (Option Nat) → (Option Nat) → (Option Nat) → Int32 → Int32 → Option (Int32 × aH)) (h : aH) (a0 : Option Nat) (a1 : Int32) (a3 : Int32) (a4 : Int32) (a5 : Option Nat) (a6 : Option Nat) (a9 : Option Nat) (a10 : Int32) (a11 : Int32) : Option (Int32 × aH) :=
  K357 h a0 a1 a3 a4 a5 a6 a9 a10 (a11 + 1)
theorem vX2_figureFor_p496 {h : aH} {K357 : aH → (Option Nat) → Int32 → Int32 → Int32 → (Option Nat) → (Option Nat) → (Option Nat) → Int32 → Int32 → Option (Int32 × aH)} {a0 : Option Nat} {a1 : Int32} {a3 : Int32} {a4 : Int32} {a5 : Option Nat} {a6 : Option Nat} {a9 : Option Nat} {a10 : Int32} {a11 : Int32} {q : Int32} {g : aH} (X : aX p l R s m meth c D n0 s0 yX2_figureFor cX2_figureFor 7 164 14 (some .int) h0) (k357 : ∀ (h : aH) (a0 : Option Nat) (a1 : Int32) (a3 : Int32) (a4 : Int32) (a5 : Option Nat) (a6 : Option Nat) (a9 : Option Nat) (a10 : Int32) (a11 : Int32) (q : Int32) (g : aH), K357 h a0 a1 a3 a4 a5 a6 a9 a10 a11 = some (q, g) → V p l e R s m args below meth c D n0 s0 (aEnd D below args s h0 (.inr (some (.int q)), g)) h 357 [(0, false, va_rf a0), (1, false, .int a1), (3, false, .int a3), (4, false, .int a4), (5, false, va_rf a5), (6, false, va_rf a6), (9, false, va_rf a9), (10, false, .int a10), (11, false, .int a11)] []) (hf : fX2_figureFor_p496 D K357 h a0 a1 a3 a4 a5 a6 a9 a10 a11 = some (q, g)) : V p l e R s m args below meth c D n0 s0 (aEnd D below args s h0 (.inr (some (.int q)), g)) h 496 [(0, false, va_rf a0), (1, false, .int a1), (3, false, .int a3), (4, false, .int a4), (5, false, va_rf a5), (6, false, va_rf a6), (9, false, va_rf a9), (10, false, .int a10), (11, false, .int a11)] [] := by
  have C := X.1
  unfold fX2_figureFor_p496 at hf
  refine v_iinc (pc := 496) (j := 8) (v := (a11 + 1)) (lv' := [(11, false, .int (a11 + 1)), (0, false, va_rf a0), (1, false, .int a1), (3, false, .int a3), (4, false, .int a4), (5, false, va_rf a5), (6, false, va_rf a6), (9, false, va_rf a9), (10, false, .int a10)]) C dX2_figureFor_496 rfl rfl (by decide) rfl ?_
  refine v_goto (pc := 499) (tgt := 357) C dX2_figureFor_499 rfl ?_
  exact V.sub [1, 2, 3, 4, 5, 6, 7, 8, 0] rfl (k357 _ _ _ _ _ _ _ _ _ _ _ _ hf)
def fX2_figureFor_p454 (D : aD) (K357 : aH → (Option Nat) → Int32 → Int32 → Int32 → (Option Nat) → (Option Nat) → (Option Nat) → Int32 → Int32 → Option (Int32 × aH)) (h : aH) (a0 : Option Nat) (a1 : Int32) (a3 : Int32) (a4 : Int32) (a5 : Option Nat) (a6 : Option Nat) (a9 : Option Nat) (a10 : Int32) (a11 : Int32) (a12 : Int32) : Option (Int32 × aH) :=
  (eI h a5 a11).bind fun x1 =>
  if x1 = a1 then
  (fX2_figureFor_p463 D h a4 a6 a12)
  else
  (if a4 ≤ a12 then
  (fX2_figureFor_p496 D K357 h a0 a1 a3 a4 a5 a6 a9 a10 a11)
  else
  ((some ((a10 ||| ((1 : Int32) <<< (a12 &&& 31))))).bind fun x2 =>
  fX2_figureFor_p496 D K357 h a0 a1 a3 a4 a5 a6 a9 x2 a11))
theorem vX2_figureFor_p454 {h : aH} {K357 : aH → (Option Nat) → Int32 → Int32 → Int32 → (Option Nat) → (Option Nat) → (Option Nat) → Int32 → Int32 → Option (Int32 × aH)} {a0 : Option Nat} {a1 : Int32} {a3 : Int32} {a4 : Int32} {a5 : Option Nat} {a6 : Option Nat} {a9 : Option Nat} {a10 : Int32} {a11 : Int32} {a12 : Int32} {q : Int32} {g : aH} (X : aX p l R s m meth c D n0 s0 yX2_figureFor cX2_figureFor 7 164 14 (some .int) h0) (k357 : ∀ (h : aH) (a0 : Option Nat) (a1 : Int32) (a3 : Int32) (a4 : Int32) (a5 : Option Nat) (a6 : Option Nat) (a9 : Option Nat) (a10 : Int32) (a11 : Int32) (q : Int32) (g : aH), K357 h a0 a1 a3 a4 a5 a6 a9 a10 a11 = some (q, g) → V p l e R s m args below meth c D n0 s0 (aEnd D below args s h0 (.inr (some (.int q)), g)) h 357 [(0, false, va_rf a0), (1, false, .int a1), (3, false, .int a3), (4, false, .int a4), (5, false, va_rf a5), (6, false, va_rf a6), (9, false, va_rf a9), (10, false, .int a10), (11, false, .int a11)] []) (hf : fX2_figureFor_p454 D K357 h a0 a1 a3 a4 a5 a6 a9 a10 a11 a12 = some (q, g)) : V p l e R s m args below meth c D n0 s0 (aEnd D below args s h0 (.inr (some (.int q)), g)) h 454 [(0, false, va_rf a0), (1, false, .int a1), (3, false, .int a3), (4, false, .int a4), (5, false, va_rf a5), (6, false, va_rf a6), (9, false, va_rf a9), (10, false, .int a10), (11, false, .int a11), (12, false, .int a12)] [] := by
  have C := X.1
  unfold fX2_figureFor_p454 at hf
  refine v_aload (pc := 454) (j := 4) C dX2_figureFor_454 rfl ?_
  refine v_iload (pc := 456) (j := 8) C dX2_figureFor_456 rfl ?_
  obtain ⟨x1, ex1, hf⟩ := oB hf
  refine v_iaload (pc := 458) C ex1 dX2_figureFor_458 ?_
  refine v_iload_n (pc := 459) (j := 1) C dX2_figureFor_459 rfl rfl ?_
  refine v_icmp_ne (pc := 460) (tgt := 480) C dX2_figureFor_460 rfl (fun hc => ?_) (fun hc => ?_)
  · rw [if_neg hc] at hf
    refine v_iload (pc := 480) (j := 9) C dX2_figureFor_480 rfl ?_
    refine v_iload (pc := 482) (j := 3) C dX2_figureFor_482 rfl ?_
    refine v_icmp_ge (pc := 484) (tgt := 496) C dX2_figureFor_484 rfl (fun hc => ?_) (fun hc => ?_)
    · rw [if_pos hc] at hf
      exact V.sub [0, 1, 2, 3, 4, 5, 6, 7, 8] rfl (vX2_figureFor_p496 X k357 hf)
    · rw [if_neg hc] at hf
      refine v_iload (pc := 487) (j := 7) C dX2_figureFor_487 rfl ?_
      refine v_iconst (pc := 489) (v := (1 : Int32)) C dX2_figureFor_489 rfl ?_
      refine v_iload (pc := 490) (j := 9) C dX2_figureFor_490 rfl ?_
      refine v_ishl (pc := 492) C dX2_figureFor_492 ?_
      refine v_ior (pc := 493) C dX2_figureFor_493 ?_
      obtain ⟨x2, ex2, hf⟩ := oB hf
      refine vst (Option.some.inj ex2) (fun z => .int z :: []) ?_
      refine v_istore (pc := 494) (lv' := [(10, false, .int x2), (0, false, va_rf a0), (1, false, .int a1), (3, false, .int a3), (4, false, .int a4), (5, false, va_rf a5), (6, false, va_rf a6), (9, false, va_rf a9), (11, false, .int a11), (12, false, .int a12)]) C dX2_figureFor_494 (by decide) rfl ?_
      exact V.sub [1, 2, 3, 4, 5, 6, 7, 0, 8] rfl (vX2_figureFor_p496 X k357 hf)
  · rw [if_pos (Decidable.of_not_not hc)] at hf
    exact V.sub [3, 5, 9] rfl (vX2_figureFor_p463 X hf)
def fX2_figureFor_p366 (D : aD) (K357 : aH → (Option Nat) → Int32 → Int32 → Int32 → (Option Nat) → (Option Nat) → (Option Nat) → Int32 → Int32 → Option (Int32 × aH)) : Nat → aH → (Option Nat) → Int32 → Int32 → Int32 → (Option Nat) → (Option Nat) → (Option Nat) → Int32 → Int32 → Int32 → Option (Int32 × aH)
  | 0, _, _, _, _, _, _, _, _, _, _, _ => none
  | n + 1, h, a0, a1, a3, a4, a5, a6, a9, a10, a11, a12 =>
  if a4 ≤ a12 then
  (fX2_figureFor_p454 D K357 h a0 a1 a3 a4 a5 a6 a9 a10 a11 a12)
  else
  (if ((a10 >>> (a12 &&& 31)) &&& (1 : Int32)) = (1 : Int32) then
  (fX2_figureFor_p448 D K357 (fX2_figureFor_p366 D K357 n) h a0 a1 a3 a4 a5 a6 a9 a10 a11 a12)
  else
  ((gR h 1 17 a0).bind fun x1 =>
  (eI h a5 a11).bind fun x2 =>
  (aIs h 15 x1).bind fun _ =>
  (fJ2_get D h x1 x2).bind fun x4 =>
  (aCast h [100] x4).bind fun _ =>
  (eI h x4 (1 : Int32)).bind fun x7 =>
  (gR h 1 9 a0).bind fun x8 =>
  (eI h a6 a12).bind fun x9 =>
  (aIs h 15 x8).bind fun _ =>
  (fJ2_get D h x8 x9).bind fun x11 =>
  (aCast h [100] x11).bind fun _ =>
  (eI h x11 (2 : Int32)).bind fun x14 =>
  (fX2_distance D h x7 x14).bind fun x16 =>
  (eR h a9 (a11 + (1 : Int32))).bind fun x18 =>
  (eI h x18 (a10 ||| ((1 : Int32) <<< (a12 &&& 31)))).bind fun x19 =>
  (eR h a9 a11).bind fun x20 =>
  (eI h x20 a10).bind fun x21 =>
  if (x16 + x19) = x21 then
  (fX2_figureFor_p454 D K357 h a0 a1 a3 a4 a5 a6 a9 a10 a11 a12)
  else
  (fX2_figureFor_p448 D K357 (fX2_figureFor_p366 D K357 n) h a0 a1 a3 a4 a5 a6 a9 a10 a11 a12)))
theorem vX2_figureFor_p366 {K357 : aH → (Option Nat) → Int32 → Int32 → Int32 → (Option Nat) → (Option Nat) → (Option Nat) → Int32 → Int32 → Option (Int32 × aH)} (X : aX p l R s m meth c D n0 s0 yX2_figureFor cX2_figureFor 7 164 14 (some .int) h0) (k357 : ∀ (h : aH) (a0 : Option Nat) (a1 : Int32) (a3 : Int32) (a4 : Int32) (a5 : Option Nat) (a6 : Option Nat) (a9 : Option Nat) (a10 : Int32) (a11 : Int32) (q : Int32) (g : aH), K357 h a0 a1 a3 a4 a5 a6 a9 a10 a11 = some (q, g) → V p l e R s m args below meth c D n0 s0 (aEnd D below args s h0 (.inr (some (.int q)), g)) h 357 [(0, false, va_rf a0), (1, false, .int a1), (3, false, .int a3), (4, false, .int a4), (5, false, va_rf a5), (6, false, va_rf a6), (9, false, va_rf a9), (10, false, .int a10), (11, false, .int a11)] []) : ∀ (n : Nat) (h : aH) (a0 : Option Nat) (a1 : Int32) (a3 : Int32) (a4 : Int32) (a5 : Option Nat) (a6 : Option Nat) (a9 : Option Nat) (a10 : Int32) (a11 : Int32) (a12 : Int32) (q : Int32) (g : aH), fX2_figureFor_p366 D K357 n h a0 a1 a3 a4 a5 a6 a9 a10 a11 a12 = some (q, g) → V p l e R s m args below meth c D n0 s0 (aEnd D below args s h0 (.inr (some (.int q)), g)) h 366 [(0, false, va_rf a0), (1, false, .int a1), (3, false, .int a3), (4, false, .int a4), (5, false, va_rf a5), (6, false, va_rf a6), (9, false, va_rf a9), (10, false, .int a10), (11, false, .int a11), (12, false, .int a12)] [] := by
  have C := X.1
  intro n
  induction n with
  | zero =>
    intro _ _ _ _ _ _ _ _ _ _ _ _ _ hf
    rw [fX2_figureFor_p366] at hf
    cases hf
  | succ n ih =>
    intro h a0 a1 a3 a4 a5 a6 a9 a10 a11 a12 q g hf
    rw [fX2_figureFor_p366] at hf
    refine v_iload (pc := 366) (j := 9) C dX2_figureFor_366 rfl ?_
    refine v_iload (pc := 368) (j := 3) C dX2_figureFor_368 rfl ?_
    refine v_icmp_ge (pc := 370) (tgt := 454) C dX2_figureFor_370 rfl (fun hc => ?_) (fun hc => ?_)
    · rw [if_pos hc] at hf
      exact V.sub [0, 1, 2, 3, 4, 5, 6, 7, 8, 9] rfl (vX2_figureFor_p454 X k357 hf)
    · rw [if_neg hc] at hf
      refine v_iload (pc := 373) (j := 7) C dX2_figureFor_373 rfl ?_
      refine v_iload (pc := 375) (j := 9) C dX2_figureFor_375 rfl ?_
      refine v_ishr (pc := 377) C dX2_figureFor_377 ?_
      refine v_iconst (pc := 378) (v := (1 : Int32)) C dX2_figureFor_378 rfl ?_
      refine v_iand (pc := 379) C dX2_figureFor_379 ?_
      refine v_iconst (pc := 380) (v := (1 : Int32)) C dX2_figureFor_380 rfl ?_
      refine v_icmp_eq (pc := 381) (tgt := 448) C dX2_figureFor_381 rfl (fun hc => ?_) (fun hc => ?_)
      · rw [if_pos hc] at hf
        exact V.sub [0, 1, 2, 3, 4, 5, 6, 7, 8, 9] rfl (vX2_figureFor_p448 X k357 ih hf)
      · rw [if_neg hc] at hf
        refine v_aload_n (pc := 384) (j := 0) C dX2_figureFor_384 rfl rfl ?_
        obtain ⟨x1, ex1, hf⟩ := oB hf
        refine v_getF (pc := 385) C lk_X2_60 (gR_eq ex1) dX2_figureFor_385 ?_
        refine v_aload (pc := 388) (j := 4) C dX2_figureFor_388 rfl ?_
        refine v_iload (pc := 390) (j := 8) C dX2_figureFor_390 rfl ?_
        obtain ⟨x2, ex2, hf⟩ := oB hf
        refine v_iaload (pc := 392) C ex2 dX2_figureFor_392 ?_
        obtain ⟨b3, eb3, hf⟩ := oB hf
        obtain ⟨rb3, _, kb3⟩ := aIs_eq eb3
        obtain ⟨x4, ex4, hf⟩ := oB hf
        refine v_call (pc := 393) (d_V (pc := 393) C (As := [.int x2]) (rest := []) rb3 kb3 nt_15 q2520 yi_J2_get_java_util_ArrayList yk_J2_get rfl (by decide) (by decide) (Nat.le_trans aw_0 (by decide)) rfl (mJ2_get C.st ex4) dX2_figureFor_393) ?_
        obtain ⟨_, e6, hf⟩ := oB hf
        refine v_cast (pc := 396) C q2521 ct__I e6 dX2_figureFor_396 ?_
        refine v_iconst (pc := 399) (v := (1 : Int32)) C dX2_figureFor_399 rfl ?_
        obtain ⟨x7, ex7, hf⟩ := oB hf
        refine v_iaload (pc := 400) C ex7 dX2_figureFor_400 ?_
        refine v_aload_n (pc := 401) (j := 0) C dX2_figureFor_401 rfl rfl ?_
        obtain ⟨x8, ex8, hf⟩ := oB hf
        refine v_getF (pc := 402) C lk_X2_33 (gR_eq ex8) dX2_figureFor_402 ?_
        refine v_aload (pc := 405) (j := 5) C dX2_figureFor_405 rfl ?_
        refine v_iload (pc := 407) (j := 9) C dX2_figureFor_407 rfl ?_
        obtain ⟨x9, ex9, hf⟩ := oB hf
        refine v_iaload (pc := 409) C ex9 dX2_figureFor_409 ?_
        obtain ⟨b10, eb10, hf⟩ := oB hf
        obtain ⟨rb10, _, kb10⟩ := aIs_eq eb10
        obtain ⟨x11, ex11, hf⟩ := oB hf
        refine v_call (pc := 410) (d_V (pc := 410) C (As := [.int x9]) (rest := [.int x7]) rb10 kb10 nt_15 q2520 yi_J2_get_java_util_ArrayList yk_J2_get rfl (by decide) (by decide) (Nat.le_trans (aw_i aw_0) (by decide)) rfl (mJ2_get C.st ex11) dX2_figureFor_410) ?_
        obtain ⟨_, e13, hf⟩ := oB hf
        refine v_cast (pc := 413) C q2521 ct__I e13 dX2_figureFor_413 ?_
        refine v_iconst (pc := 416) (v := (2 : Int32)) C dX2_figureFor_416 rfl ?_
        obtain ⟨x14, ex14, hf⟩ := oB hf
        refine v_iaload (pc := 417) C ex14 dX2_figureFor_417 ?_
        obtain ⟨x16, ex16, hf⟩ := oB hf
        refine v_call (pc := 418) (d_S (pc := 418) C (As := [.int x7, .int x14]) (rest := []) q2807 q2808 yk_X2_distance rfl (by decide) (by decide) (Nat.le_trans aw_0 (by decide)) rfl (mX2_distance C.st ex16) dX2_figureFor_418) ?_
        refine v_aload (pc := 421) (j := 6) C dX2_figureFor_421 rfl ?_
        refine v_iload (pc := 423) (j := 8) C dX2_figureFor_423 rfl ?_
        refine v_iconst (pc := 425) (v := (1 : Int32)) C dX2_figureFor_425 rfl ?_
        refine v_iadd (pc := 426) C dX2_figureFor_426 ?_
        obtain ⟨x18, ex18, hf⟩ := oB hf
        refine v_aaload (pc := 427) C ex18 dX2_figureFor_427 ?_
        refine v_iload (pc := 428) (j := 7) C dX2_figureFor_428 rfl ?_
        refine v_iconst (pc := 430) (v := (1 : Int32)) C dX2_figureFor_430 rfl ?_
        refine v_iload (pc := 431) (j := 9) C dX2_figureFor_431 rfl ?_
        refine v_ishl (pc := 433) C dX2_figureFor_433 ?_
        refine v_ior (pc := 434) C dX2_figureFor_434 ?_
        obtain ⟨x19, ex19, hf⟩ := oB hf
        refine v_iaload (pc := 435) C ex19 dX2_figureFor_435 ?_
        refine v_iadd (pc := 436) C dX2_figureFor_436 ?_
        refine v_aload (pc := 437) (j := 6) C dX2_figureFor_437 rfl ?_
        refine v_iload (pc := 439) (j := 8) C dX2_figureFor_439 rfl ?_
        obtain ⟨x20, ex20, hf⟩ := oB hf
        refine v_aaload (pc := 441) C ex20 dX2_figureFor_441 ?_
        refine v_iload (pc := 442) (j := 7) C dX2_figureFor_442 rfl ?_
        obtain ⟨x21, ex21, hf⟩ := oB hf
        refine v_iaload (pc := 444) C ex21 dX2_figureFor_444 ?_
        refine v_icmp_eq (pc := 445) (tgt := 454) C dX2_figureFor_445 rfl (fun hc => ?_) (fun hc => ?_)
        · rw [if_pos hc] at hf
          exact V.sub [0, 1, 2, 3, 4, 5, 6, 7, 8, 9] rfl (vX2_figureFor_p454 X k357 hf)
        · rw [if_neg hc] at hf
          exact V.sub [0, 1, 2, 3, 4, 5, 6, 7, 8, 9] rfl (vX2_figureFor_p448 X k357 ih hf)
def fX2_figureFor_p357 (D : aD) : Nat → aH → (Option Nat) → Int32 → Int32 → Int32 → (Option Nat) → (Option Nat) → (Option Nat) → Int32 → Int32 → Option (Int32 × aH)
  | 0, _, _, _, _, _, _, _, _, _, _ => none
  | n + 1, h, a0, a1, a3, a4, a5, a6, a9, a10, a11 =>
  if a3 ≤ a11 then
  (some ((-1 : Int32), h))
  else
  (fX2_figureFor_p366 D (fX2_figureFor_p357 D n) FU h a0 a1 a3 a4 a5 a6 a9 a10 a11 (0 : Int32))
theorem vX2_figureFor_p357 (X : aX p l R s m meth c D n0 s0 yX2_figureFor cX2_figureFor 7 164 14 (some .int) h0) : ∀ (n : Nat) (h : aH) (a0 : Option Nat) (a1 : Int32) (a3 : Int32) (a4 : Int32) (a5 : Option Nat) (a6 : Option Nat) (a9 : Option Nat) (a10 : Int32) (a11 : Int32) (q : Int32) (g : aH), fX2_figureFor_p357 D n h a0 a1 a3 a4 a5 a6 a9 a10 a11 = some (q, g) → V p l e R s m args below meth c D n0 s0 (aEnd D below args s h0 (.inr (some (.int q)), g)) h 357 [(0, false, va_rf a0), (1, false, .int a1), (3, false, .int a3), (4, false, .int a4), (5, false, va_rf a5), (6, false, va_rf a6), (9, false, va_rf a9), (10, false, .int a10), (11, false, .int a11)] [] := by
  have C := X.1
  intro n
  induction n with
  | zero =>
    intro _ _ _ _ _ _ _ _ _ _ _ _ hf
    rw [fX2_figureFor_p357] at hf
    cases hf
  | succ n ih =>
    intro h a0 a1 a3 a4 a5 a6 a9 a10 a11 q g hf
    rw [fX2_figureFor_p357] at hf
    refine v_iload (pc := 357) (j := 8) C dX2_figureFor_357 rfl ?_
    refine v_iload_n (pc := 359) (j := 2) C dX2_figureFor_359 rfl rfl ?_
    refine v_icmp_ge (pc := 360) (tgt := 502) C dX2_figureFor_360 rfl (fun hc => ?_) (fun hc => ?_)
    · rw [if_pos hc] at hf
      refine v_iconst (pc := 502) (v := (-1 : Int32)) C dX2_figureFor_502 rfl ?_
      cases hf
      exact v_ireturn (pc := 503) C X.2.1 X.2.2.1 X.2.2.2.1 rfl dX2_figureFor_503
    · rw [if_neg hc] at hf
      refine v_iconst (pc := 363) (v := (0 : Int32)) C dX2_figureFor_363 rfl ?_
      refine v_istore (pc := 364) (lv' := [(12, false, .int (0 : Int32)), (0, false, va_rf a0), (1, false, .int a1), (3, false, .int a3), (4, false, .int a4), (5, false, va_rf a5), (6, false, va_rf a6), (9, false, va_rf a9), (10, false, .int a10), (11, false, .int a11)]) C dX2_figureFor_364 (by decide) rfl ?_
      exact V.sub [1, 2, 3, 4, 5, 6, 7, 8, 9, 0] rfl (vX2_figureFor_p366 X ih _ _ _ _ _ _ _ _ _ _ _ _ _ _ hf)
def fX2_figureFor_p351 (D : aD) (h : aH) (a0 : Option Nat) (a1 : Int32) (a3 : Int32) (a4 : Int32) (a5 : Option Nat) (a6 : Option Nat) (a9 : Option Nat) : Option (Int32 × aH) :=
  fX2_figureFor_p357 D FU h a0 a1 a3 a4 a5 a6 a9 (0 : Int32) (0 : Int32)
theorem vX2_figureFor_p351 {h : aH} {a0 : Option Nat} {a1 : Int32} {a3 : Int32} {a4 : Int32} {a5 : Option Nat} {a6 : Option Nat} {a9 : Option Nat} {q : Int32} {g : aH} (X : aX p l R s m meth c D n0 s0 yX2_figureFor cX2_figureFor 7 164 14 (some .int) h0) (hf : fX2_figureFor_p351 D h a0 a1 a3 a4 a5 a6 a9 = some (q, g)) : V p l e R s m args below meth c D n0 s0 (aEnd D below args s h0 (.inr (some (.int q)), g)) h 351 [(0, false, va_rf a0), (1, false, .int a1), (3, false, .int a3), (4, false, .int a4), (5, false, va_rf a5), (6, false, va_rf a6), (9, false, va_rf a9)] [] := by
  have C := X.1
  unfold fX2_figureFor_p351 at hf
  refine v_iconst (pc := 351) (v := (0 : Int32)) C dX2_figureFor_351 rfl ?_
  refine v_istore (pc := 352) (lv' := [(10, false, .int (0 : Int32)), (0, false, va_rf a0), (1, false, .int a1), (3, false, .int a3), (4, false, .int a4), (5, false, va_rf a5), (6, false, va_rf a6), (9, false, va_rf a9)]) C dX2_figureFor_352 (by decide) rfl ?_
  refine v_iconst (pc := 354) (v := (0 : Int32)) C dX2_figureFor_354 rfl ?_
  refine v_istore (pc := 355) (lv' := [(11, false, .int (0 : Int32)), (10, false, .int (0 : Int32)), (0, false, va_rf a0), (1, false, .int a1), (3, false, .int a3), (4, false, .int a4), (5, false, va_rf a5), (6, false, va_rf a6), (9, false, va_rf a9)]) C dX2_figureFor_355 (by decide) rfl ?_
  exact V.sub [2, 3, 4, 5, 6, 7, 8, 1, 0] rfl (vX2_figureFor_p357 X _ _ _ _ _ _ _ _ _ _ _ _ _ hf)
def fX2_figureFor_p191 (D : aD) : Nat → aH → (Option Nat) → Int32 → Int32 → Int32 → (Option Nat) → (Option Nat) → Int32 → Int32 → (Option Nat) → Int32 → Option (Int32 × aH)
  | 0, _, _, _, _, _, _, _, _, _, _, _ => none
  | n + 1, h, a0, a1, a3, a4, a5, a6, a7, a8, a9, a10 =>
  if a10 < 0 then
  (fX2_figureFor_p351 D h a0 a1 a3 a4 a5 a6 a9)
  else
  (fX2_figureFor_p199 D (fX2_figureFor_p191 D n) FU h a0 a1 a3 a4 a5 a6 a7 a8 a9 a10 (0 : Int32))
theorem vX2_figureFor_p191 (X : aX p l R s m meth c D n0 s0 yX2_figureFor cX2_figureFor 7 164 14 (some .int) h0) : ∀ (n : Nat) (h : aH) (a0 : Option Nat) (a1 : Int32) (a3 : Int32) (a4 : Int32) (a5 : Option Nat) (a6 : Option Nat) (a7 : Int32) (a8 : Int32) (a9 : Option Nat) (a10 : Int32) (q : Int32) (g : aH), fX2_figureFor_p191 D n h a0 a1 a3 a4 a5 a6 a7 a8 a9 a10 = some (q, g) → V p l e R s m args below meth c D n0 s0 (aEnd D below args s h0 (.inr (some (.int q)), g)) h 191 [(0, false, va_rf a0), (1, false, .int a1), (3, false, .int a3), (4, false, .int a4), (5, false, va_rf a5), (6, false, va_rf a6), (7, false, .int a7), (8, false, .int a8), (9, false, va_rf a9), (10, false, .int a10)] [] := by
  have C := X.1
  intro n
  induction n with
  | zero =>
    intro _ _ _ _ _ _ _ _ _ _ _ _ _ hf
    rw [fX2_figureFor_p191] at hf
    cases hf
  | succ n ih =>
    intro h a0 a1 a3 a4 a5 a6 a7 a8 a9 a10 q g hf
    rw [fX2_figureFor_p191] at hf
    refine v_iload (pc := 191) (j := 9) C dX2_figureFor_191 rfl ?_
    refine v_if_lt (pc := 193) (tgt := 351) C dX2_figureFor_193 rfl (fun hc => ?_) (fun hc => ?_)
    · rw [if_pos hc] at hf
      exact V.sub [0, 1, 2, 3, 4, 5, 8] rfl (vX2_figureFor_p351 X hf)
    · rw [if_neg hc] at hf
      refine v_iconst (pc := 196) (v := (0 : Int32)) C dX2_figureFor_196 rfl ?_
      refine v_istore (pc := 197) (lv' := [(11, false, .int (0 : Int32)), (0, false, va_rf a0), (1, false, .int a1), (3, false, .int a3), (4, false, .int a4), (5, false, va_rf a5), (6, false, va_rf a6), (7, false, .int a7), (8, false, .int a8), (9, false, va_rf a9), (10, false, .int a10)]) C dX2_figureFor_197 (by decide) rfl ?_
      exact V.sub [1, 2, 3, 4, 5, 6, 7, 8, 9, 10, 0] rfl (vX2_figureFor_p199 X ih _ _ _ _ _ _ _ _ _ _ _ _ _ _ _ hf)
def fX2_figureFor_p159 (D : aD) (h : aH) (a0 : Option Nat) (a1 : Int32) (a3 : Int32) (a4 : Int32) (a5 : Option Nat) (a6 : Option Nat) : Option (Int32 × aH) :=
  (fJ11_max D h (0 : Int32) (a3 - a4)).bind fun x2 =>
  (aMk2 D h 104 100 (a3 + (1 : Int32)) ((1 : Int32) <<< (a4 &&& 31)) (.int 0)).bind fun h4 =>
  (some ((a3 - (1 : Int32)))).bind fun x5 =>
  fX2_figureFor_p191 D FU h4 a0 a1 a3 a4 a5 a6 x2 (1000000 : Int32) (some h.1) x5
theorem vX2_figureFor_p159 {h : aH} {a0 : Option Nat} {a1 : Int32} {a3 : Int32} {a4 : Int32} {a5 : Option Nat} {a6 : Option Nat} {q : Int32} {g : aH} (X : aX p l R s m meth c D n0 s0 yX2_figureFor cX2_figureFor 7 164 14 (some .int) h0) (hf : fX2_figureFor_p159 D h a0 a1 a3 a4 a5 a6 = some (q, g)) : V p l e R s m args below meth c D n0 s0 (aEnd D below args s h0 (.inr (some (.int q)), g)) h 159 [(0, false, va_rf a0), (1, false, .int a1), (3, false, .int a3), (4, false, .int a4), (5, false, va_rf a5), (6, false, va_rf a6)] [] := by
  have C := X.1
  unfold fX2_figureFor_p159 at hf
  refine v_iconst (pc := 159) (v := (0 : Int32)) C dX2_figureFor_159 rfl ?_
  refine v_iload_n (pc := 160) (j := 2) C dX2_figureFor_160 rfl rfl ?_
  refine v_iload (pc := 161) (j := 3) C dX2_figureFor_161 rfl ?_
  refine v_isub (pc := 163) C dX2_figureFor_163 ?_
  obtain ⟨x2, ex2, hf⟩ := oB hf
  refine v_call (pc := 164) (d_S (pc := 164) C (As := [.int (0 : Int32), .int (a3 - a4)]) (rest := []) q2827 q424 yk_J11_max rfl (by decide) (by decide) (Nat.le_trans aw_0 (by decide)) rfl (mJ11_max C.st ex2) dX2_figureFor_164) ?_
  refine v_istore (pc := 167) (lv' := [(7, false, .int x2), (0, false, va_rf a0), (1, false, .int a1), (3, false, .int a3), (4, false, .int a4), (5, false, va_rf a5), (6, false, va_rf a6)]) C dX2_figureFor_167 (by decide) rfl ?_
  refine v_ldc (pc := 169) (v := (1000000 : Int32)) C q2828 dX2_figureFor_169 ?_
  refine v_istore (pc := 171) (lv' := [(8, false, .int (1000000 : Int32)), (7, false, .int x2), (0, false, va_rf a0), (1, false, .int a1), (3, false, .int a3), (4, false, .int a4), (5, false, va_rf a5), (6, false, va_rf a6)]) C dX2_figureFor_171 (by decide) rfl ?_
  refine v_iload_n (pc := 173) (j := 4) C dX2_figureFor_173 rfl rfl ?_
  refine v_iconst (pc := 174) (v := (1 : Int32)) C dX2_figureFor_174 rfl ?_
  refine v_iadd (pc := 175) C dX2_figureFor_175 ?_
  refine v_iconst (pc := 176) (v := (1 : Int32)) C dX2_figureFor_176 rfl ?_
  refine v_iload (pc := 177) (j := 5) C dX2_figureFor_177 rfl ?_
  refine v_ishl (pc := 179) C dX2_figureFor_179 ?_
  obtain ⟨h4, eh4, hf⟩ := oB hf
  refine v_multi (pc := 180) (t := 104) (t' := 100) (t9 := .int) (v := .int 0) C (by decide +kernel) (by decide +kernel) rfl (by decide) rfl (by decide) q2829 q208 q169 (by decide) rfl rfl rfl eh4 dX2_figureFor_180 ?_
  refine v_astore (pc := 184) (lv' := [(9, false, va_rf (some h.1)), (8, false, .int (1000000 : Int32)), (7, false, .int x2), (0, false, va_rf a0), (1, false, .int a1), (3, false, .int a3), (4, false, .int a4), (5, false, va_rf a5), (6, false, va_rf a6)]) C dX2_figureFor_184 (by decide) rfl ?_
  refine v_iload_n (pc := 186) (j := 5) C dX2_figureFor_186 rfl rfl ?_
  refine v_iconst (pc := 187) (v := (1 : Int32)) C dX2_figureFor_187 rfl ?_
  refine v_isub (pc := 188) C dX2_figureFor_188 ?_
  obtain ⟨x5, ex5, hf⟩ := oB hf
  refine vst (Option.some.inj ex5) (fun z => .int z :: []) ?_
  refine v_istore (pc := 189) (lv' := [(10, false, .int x5), (9, false, va_rf (some h.1)), (8, false, .int (1000000 : Int32)), (7, false, .int x2), (0, false, va_rf a0), (1, false, .int a1), (3, false, .int a3), (4, false, .int a4), (5, false, va_rf a5), (6, false, va_rf a6)]) C dX2_figureFor_189 (by decide) rfl ?_
  exact V.sub [4, 5, 6, 7, 8, 9, 3, 2, 1, 0] rfl (vX2_figureFor_p191 X _ _ _ _ _ _ _ _ _ _ _ _ _ _ hf)
def fX2_figureFor_p110 (D : aD) : Nat → aH → (Option Nat) → Int32 → Int32 → Int32 → Int32 → (Option Nat) → (Option Nat) → Int32 → Option (Int32 × aH)
  | 0, _, _, _, _, _, _, _, _, _ => none
  | n + 1, h, a0, a1, a2, a3, a4, a5, a6, a7 =>
  (gR h 1 9 a0).bind fun x1 =>
  (aIs h 15 x1).bind fun _ =>
  (fJ2_size D h x1).bind fun x3 =>
  if x3 ≤ a7 then
  (fX2_figureFor_p159 D h a0 a1 a3 a4 a5 a6)
  else
  ((aIs h 1 a0).bind fun _ =>
  (fX2_panelOf D h a0 a7).bind fun x6 =>
  if x6 = a2 then
  ((aIs h 1 a0).bind fun _ =>
  bnd2 (fX2_doubt D h a0 a7) fun x9 h10 =>
  if (10 : Int32) ≤ x9 then
  (fX2_figureFor_p153 D (fX2_figureFor_p110 D n) h10 a0 a1 a2 a3 a4 a5 a6 a7)
  else
  ((sF D h10 100 a6 a4 (.int a7)).bind fun h11 =>
  fX2_figureFor_p153 D (fX2_figureFor_p110 D n) h11 a0 a1 a2 a3 (a4 + 1) a5 a6 a7))
  else
  (fX2_figureFor_p153 D (fX2_figureFor_p110 D n) h a0 a1 a2 a3 a4 a5 a6 a7))
theorem vX2_figureFor_p110 (X : aX p l R s m meth c D n0 s0 yX2_figureFor cX2_figureFor 7 164 14 (some .int) h0) : ∀ (n : Nat) (h : aH) (a0 : Option Nat) (a1 : Int32) (a2 : Int32) (a3 : Int32) (a4 : Int32) (a5 : Option Nat) (a6 : Option Nat) (a7 : Int32) (q : Int32) (g : aH), fX2_figureFor_p110 D n h a0 a1 a2 a3 a4 a5 a6 a7 = some (q, g) → V p l e R s m args below meth c D n0 s0 (aEnd D below args s h0 (.inr (some (.int q)), g)) h 110 [(0, false, va_rf a0), (1, false, .int a1), (2, false, .int a2), (3, false, .int a3), (4, false, .int a4), (5, false, va_rf a5), (6, false, va_rf a6), (7, false, .int a7)] [] := by
  have C := X.1
  intro n
  induction n with
  | zero =>
    intro _ _ _ _ _ _ _ _ _ _ _ hf
    rw [fX2_figureFor_p110] at hf
    cases hf
  | succ n ih =>
    intro h a0 a1 a2 a3 a4 a5 a6 a7 q g hf
    rw [fX2_figureFor_p110] at hf
    refine v_iload (pc := 110) (j := 7) C dX2_figureFor_110 rfl ?_
    refine v_aload_n (pc := 112) (j := 0) C dX2_figureFor_112 rfl rfl ?_
    obtain ⟨x1, ex1, hf⟩ := oB hf
    refine v_getF (pc := 113) C lk_X2_33 (gR_eq ex1) dX2_figureFor_113 ?_
    obtain ⟨b2, eb2, hf⟩ := oB hf
    obtain ⟨rb2, _, kb2⟩ := aIs_eq eb2
    obtain ⟨x3, ex3, hf⟩ := oB hf
    refine v_call (pc := 116) (d_V (pc := 116) C (As := []) (rest := [.int a7]) rb2 kb2 nt_15 q2502 yi_J2_size_java_util_ArrayList yk_J2_size rfl (by decide) (by decide) (Nat.le_trans (aw_i aw_0) (by decide)) rfl (mJ2_size C.st ex3) dX2_figureFor_116) ?_
    refine v_icmp_ge (pc := 119) (tgt := 159) C dX2_figureFor_119 rfl (fun hc => ?_) (fun hc => ?_)
    · rw [if_pos hc] at hf
      exact V.sub [0, 1, 3, 4, 5, 6] rfl (vX2_figureFor_p159 X hf)
    · rw [if_neg hc] at hf
      refine v_aload_n (pc := 122) (j := 0) C dX2_figureFor_122 rfl rfl ?_
      refine v_iload (pc := 123) (j := 7) C dX2_figureFor_123 rfl ?_
      obtain ⟨b5, eb5, hf⟩ := oB hf
      obtain ⟨rb5, _, kb5⟩ := aIs_eq eb5
      obtain ⟨x6, ex6, hf⟩ := oB hf
      refine v_call (pc := 125) (d_V (pc := 125) C (As := [.int a7]) (rest := []) rb5 kb5 nt_1 q2552 yi_X2_panelOf_FigureSurveyModel yk_X2_panelOf rfl (by decide) (by decide) (Nat.le_trans aw_0 (by decide)) rfl (mX2_panelOf C.st ex6) dX2_figureFor_125) ?_
      refine v_iload_n (pc := 128) (j := 2) C dX2_figureFor_128 rfl rfl ?_
      refine v_icmp_ne (pc := 129) (tgt := 153) C dX2_figureFor_129 rfl (fun hc => ?_) (fun hc => ?_)
      · rw [if_neg hc] at hf
        exact V.sub [0, 1, 2, 3, 4, 5, 6, 7] rfl (vX2_figureFor_p153 X ih hf)
      · rw [if_pos (Decidable.of_not_not hc)] at hf
        refine v_aload_n (pc := 132) (j := 0) C dX2_figureFor_132 rfl rfl ?_
        refine v_iload (pc := 133) (j := 7) C dX2_figureFor_133 rfl ?_
        obtain ⟨b8, eb8, hf⟩ := oB hf
        obtain ⟨rb8, _, kb8⟩ := aIs_eq eb8
        obtain ⟨x9, h10, ex9, hf⟩ := bnd2_eq hf
        refine v_call (pc := 135) (d_V (pc := 135) C (As := [.int a7]) (rest := []) rb8 kb8 nt_1 q2633 yi_X2_doubt_FigureSurveyModel yk_X2_doubt rfl (by decide) (by decide) (Nat.le_trans aw_0 (by decide)) rfl (mX2_doubt C.st ex9) dX2_figureFor_135) ?_
        refine v_bipush (pc := 138) (v := (10 : Int32)) C dX2_figureFor_138 rfl ?_
        refine v_icmp_ge (pc := 140) (tgt := 153) C dX2_figureFor_140 rfl (fun hc => ?_) (fun hc => ?_)
        · rw [if_pos hc] at hf
          exact V.sub [0, 1, 2, 3, 4, 5, 6, 7] rfl (vX2_figureFor_p153 X ih hf)
        · rw [if_neg hc] at hf
          refine v_aload (pc := 143) (j := 6) C dX2_figureFor_143 rfl ?_
          refine v_iload (pc := 145) (j := 4) C dX2_figureFor_145 rfl ?_
          refine v_iinc (pc := 147) (j := 4) (v := (a4 + 1)) (lv' := [(4, false, .int (a4 + 1)), (0, false, va_rf a0), (1, false, .int a1), (2, false, .int a2), (3, false, .int a3), (5, false, va_rf a5), (6, false, va_rf a6), (7, false, .int a7)]) C dX2_figureFor_147 rfl rfl (by decide) rfl ?_
          refine v_iload (pc := 150) (j := 7) C dX2_figureFor_150 rfl ?_
          obtain ⟨h11, eh11, hf⟩ := oB hf
          refine v_iastore (pc := 152) C eh11 dX2_figureFor_152 ?_
          exact V.sub [1, 2, 3, 4, 0, 5, 6, 7] rfl (vX2_figureFor_p153 X ih hf)
def fX2_figureFor_p107 (D : aD) (h : aH) (a0 : Option Nat) (a1 : Int32) (a2 : Int32) (a3 : Int32) (a4 : Int32) (a5 : Option Nat) (a6 : Option Nat) : Option (Int32 × aH) :=
  fX2_figureFor_p110 D FU h a0 a1 a2 a3 a4 a5 a6 (0 : Int32)
theorem vX2_figureFor_p107 {h : aH} {a0 : Option Nat} {a1 : Int32} {a2 : Int32} {a3 : Int32} {a4 : Int32} {a5 : Option Nat} {a6 : Option Nat} {q : Int32} {g : aH} (X : aX p l R s m meth c D n0 s0 yX2_figureFor cX2_figureFor 7 164 14 (some .int) h0) (hf : fX2_figureFor_p107 D h a0 a1 a2 a3 a4 a5 a6 = some (q, g)) : V p l e R s m args below meth c D n0 s0 (aEnd D below args s h0 (.inr (some (.int q)), g)) h 107 [(0, false, va_rf a0), (1, false, .int a1), (2, false, .int a2), (3, false, .int a3), (4, false, .int a4), (5, false, va_rf a5), (6, false, va_rf a6)] [] := by
  have C := X.1
  unfold fX2_figureFor_p107 at hf
  refine v_iconst (pc := 107) (v := (0 : Int32)) C dX2_figureFor_107 rfl ?_
  refine v_istore (pc := 108) (lv' := [(7, false, .int (0 : Int32)), (0, false, va_rf a0), (1, false, .int a1), (2, false, .int a2), (3, false, .int a3), (4, false, .int a4), (5, false, va_rf a5), (6, false, va_rf a6)]) C dX2_figureFor_108 (by decide) rfl ?_
  exact V.sub [1, 2, 3, 4, 5, 6, 7, 0] rfl (vX2_figureFor_p110 X _ _ _ _ _ _ _ _ _ _ _ _ hf)
def fX2_figureFor_p62 (D : aD) : Nat → aH → (Option Nat) → Int32 → Int32 → Int32 → Int32 → (Option Nat) → (Option Nat) → Int32 → Option (Int32 × aH)
  | 0, _, _, _, _, _, _, _, _, _ => none
  | n + 1, h, a0, a1, a2, a3, a4, a5, a6, a7 =>
  (gR h 1 17 a0).bind fun x1 =>
  (aIs h 15 x1).bind fun _ =>
  (fJ2_size D h x1).bind fun x3 =>
  if x3 ≤ a7 then
  (fX2_figureFor_p107 D h a0 a1 a2 a3 a4 a5 a6)
  else
  ((gR h 1 17 a0).bind fun x5 =>
  (aIs h 15 x5).bind fun _ =>
  (fJ2_get D h x5 a7).bind fun x7 =>
  (aCast h [100] x7).bind fun _ =>
  (eI h x7 (0 : Int32)).bind fun x10 =>
  if x10 = a2 then
  ((sF D h 100 a5 a3 (.int a7)).bind fun h11 =>
  fX2_figureFor_p101 D (fX2_figureFor_p62 D n) h11 a0 a1 a2 (a3 + 1) a4 a5 a6 a7)
  else
  (fX2_figureFor_p101 D (fX2_figureFor_p62 D n) h a0 a1 a2 a3 a4 a5 a6 a7))
theorem vX2_figureFor_p62 (X : aX p l R s m meth c D n0 s0 yX2_figureFor cX2_figureFor 7 164 14 (some .int) h0) : ∀ (n : Nat) (h : aH) (a0 : Option Nat) (a1 : Int32) (a2 : Int32) (a3 : Int32) (a4 : Int32) (a5 : Option Nat) (a6 : Option Nat) (a7 : Int32) (q : Int32) (g : aH), fX2_figureFor_p62 D n h a0 a1 a2 a3 a4 a5 a6 a7 = some (q, g) → V p l e R s m args below meth c D n0 s0 (aEnd D below args s h0 (.inr (some (.int q)), g)) h 62 [(0, false, va_rf a0), (1, false, .int a1), (2, false, .int a2), (3, false, .int a3), (4, false, .int a4), (5, false, va_rf a5), (6, false, va_rf a6), (7, false, .int a7)] [] := by
  have C := X.1
  intro n
  induction n with
  | zero =>
    intro _ _ _ _ _ _ _ _ _ _ _ hf
    rw [fX2_figureFor_p62] at hf
    cases hf
  | succ n ih =>
    intro h a0 a1 a2 a3 a4 a5 a6 a7 q g hf
    rw [fX2_figureFor_p62] at hf
    refine v_iload (pc := 62) (j := 7) C dX2_figureFor_62 rfl ?_
    refine v_aload_n (pc := 64) (j := 0) C dX2_figureFor_64 rfl rfl ?_
    obtain ⟨x1, ex1, hf⟩ := oB hf
    refine v_getF (pc := 65) C lk_X2_60 (gR_eq ex1) dX2_figureFor_65 ?_
    obtain ⟨b2, eb2, hf⟩ := oB hf
    obtain ⟨rb2, _, kb2⟩ := aIs_eq eb2
    obtain ⟨x3, ex3, hf⟩ := oB hf
    refine v_call (pc := 68) (d_V (pc := 68) C (As := []) (rest := [.int a7]) rb2 kb2 nt_15 q2502 yi_J2_size_java_util_ArrayList yk_J2_size rfl (by decide) (by decide) (Nat.le_trans (aw_i aw_0) (by decide)) rfl (mJ2_size C.st ex3) dX2_figureFor_68) ?_
    refine v_icmp_ge (pc := 71) (tgt := 107) C dX2_figureFor_71 rfl (fun hc => ?_) (fun hc => ?_)
    · rw [if_pos hc] at hf
      exact V.sub [0, 1, 2, 3, 4, 5, 6] rfl (vX2_figureFor_p107 X hf)
    · rw [if_neg hc] at hf
      refine v_aload_n (pc := 74) (j := 0) C dX2_figureFor_74 rfl rfl ?_
      obtain ⟨x5, ex5, hf⟩ := oB hf
      refine v_getF (pc := 75) C lk_X2_60 (gR_eq ex5) dX2_figureFor_75 ?_
      refine v_iload (pc := 78) (j := 7) C dX2_figureFor_78 rfl ?_
      obtain ⟨b6, eb6, hf⟩ := oB hf
      obtain ⟨rb6, _, kb6⟩ := aIs_eq eb6
      obtain ⟨x7, ex7, hf⟩ := oB hf
      refine v_call (pc := 80) (d_V (pc := 80) C (As := [.int a7]) (rest := []) rb6 kb6 nt_15 q2520 yi_J2_get_java_util_ArrayList yk_J2_get rfl (by decide) (by decide) (Nat.le_trans aw_0 (by decide)) rfl (mJ2_get C.st ex7) dX2_figureFor_80) ?_
      obtain ⟨_, e9, hf⟩ := oB hf
      refine v_cast (pc := 83) C q2521 ct__I e9 dX2_figureFor_83 ?_
      refine v_iconst (pc := 86) (v := (0 : Int32)) C dX2_figureFor_86 rfl ?_
      obtain ⟨x10, ex10, hf⟩ := oB hf
      refine v_iaload (pc := 87) C ex10 dX2_figureFor_87 ?_
      refine v_iload_n (pc := 88) (j := 2) C dX2_figureFor_88 rfl rfl ?_
      refine v_icmp_ne (pc := 89) (tgt := 101) C dX2_figureFor_89 rfl (fun hc => ?_) (fun hc => ?_)
      · rw [if_neg hc] at hf
        exact V.sub [0, 1, 2, 3, 4, 5, 6, 7] rfl (vX2_figureFor_p101 X ih hf)
      · rw [if_pos (Decidable.of_not_not hc)] at hf
        refine v_aload (pc := 92) (j := 5) C dX2_figureFor_92 rfl ?_
        refine v_iload_n (pc := 94) (j := 3) C dX2_figureFor_94 rfl rfl ?_
        refine v_iinc (pc := 95) (j := 3) (v := (a3 + 1)) (lv' := [(3, false, .int (a3 + 1)), (0, false, va_rf a0), (1, false, .int a1), (2, false, .int a2), (4, false, .int a4), (5, false, va_rf a5), (6, false, va_rf a6), (7, false, .int a7)]) C dX2_figureFor_95 rfl rfl (by decide) rfl ?_
        refine v_iload (pc := 98) (j := 7) C dX2_figureFor_98 rfl ?_
        obtain ⟨h11, eh11, hf⟩ := oB hf
        refine v_iastore (pc := 100) C eh11 dX2_figureFor_100 ?_
        exact V.sub [1, 2, 3, 0, 4, 5, 6, 7] rfl (vX2_figureFor_p101 X ih hf)
def fX2_figureFor (D : aD) (h : aH) (a0 : Option Nat) (a1 : Int32) : Option (Int32 × aH) :=
  (pF D h 1 0 a0 (.int (0 : Int32))).bind fun h1 =>
  (gR h1 1 17 a0).bind fun x2 =>
  (aIs h1 15 x2).bind fun _ =>
  (fJ2_size D h1 x2).bind fun x4 =>
  (fX2_in D h1 a1 (0 : Int32) (x4 - (1 : Int32))).bind fun x7 =>
  if x7 = 0 then
  ((aIs h1 1 a0).bind fun _ =>
  bnd2 (fX2_err D h1 a0 (1 : Int32)) fun x18 h19 =>
  some (x18, h19))
  else
  ((gR h1 1 17 a0).bind fun x9 =>
  (aIs h1 15 x9).bind fun _ =>
  (fJ2_get D h1 x9 a1).bind fun x11 =>
  (aCast h1 [100] x11).bind fun _ =>
  (eI h1 x11 (0 : Int32)).bind fun x14 =>
  (aMkA D h1 100 (8 : Int32) (.int 0)).bind fun h15 =>
  (aMkA D h15 100 (8 : Int32) (.int 0)).bind fun h16 =>
  fX2_figureFor_p62 D FU h16 a0 a1 x14 (0 : Int32) (0 : Int32) (some h1.1) (some h15.1) (0 : Int32))
theorem vX2_figureFor {h : aH} {a0 : Option Nat} {a1 : Int32} {q : Int32} {g : aH} (X : aX p l R s m meth c D n0 s0 yX2_figureFor cX2_figureFor 7 164 14 (some .int) h0) (hf : fX2_figureFor D h a0 a1 = some (q, g)) : V p l e R s m args below meth c D n0 s0 (aEnd D below args s h0 (.inr (some (.int q)), g)) h 0 [(0, false, va_rf a0), (1, false, .int a1)] [] := by
  have C := X.1
  unfold fX2_figureFor at hf
  refine v_aload_n (pc := 0) (j := 0) C dX2_figureFor_0 rfl rfl ?_
  refine v_iconst (pc := 1) (v := (0 : Int32)) C dX2_figureFor_1 rfl ?_
  obtain ⟨h1, eh1, hf⟩ := oB hf
  refine v_putF (pc := 2) C lk_X2_69 tyX2 tyX2_ok nmX2 (tyX2_ok 0 (by decide)) rfl rfl eh1 dX2_figureFor_2 ?_
  refine v_iload_n (pc := 5) (j := 1) C dX2_figureFor_5 rfl rfl ?_
  refine v_iconst (pc := 6) (v := (0 : Int32)) C dX2_figureFor_6 rfl ?_
  refine v_aload_n (pc := 7) (j := 0) C dX2_figureFor_7 rfl rfl ?_
  obtain ⟨x2, ex2, hf⟩ := oB hf
  refine v_getF (pc := 8) C lk_X2_60 (gR_eq ex2) dX2_figureFor_8 ?_
  obtain ⟨b3, eb3, hf⟩ := oB hf
  obtain ⟨rb3, _, kb3⟩ := aIs_eq eb3
  obtain ⟨x4, ex4, hf⟩ := oB hf
  refine v_call (pc := 11) (d_V (pc := 11) C (As := []) (rest := [.int (0 : Int32), .int a1]) rb3 kb3 nt_15 q2502 yi_J2_size_java_util_ArrayList yk_J2_size rfl (by decide) (by decide) (Nat.le_trans (aw_i (aw_i aw_0)) (by decide)) rfl (mJ2_size C.st ex4) dX2_figureFor_11) ?_
  refine v_iconst (pc := 14) (v := (1 : Int32)) C dX2_figureFor_14 rfl ?_
  refine v_isub (pc := 15) C dX2_figureFor_15 ?_
  obtain ⟨x7, ex7, hf⟩ := oB hf
  refine v_call (pc := 16) (d_S (pc := 16) C (As := [.int a1, .int (0 : Int32), .int (x4 - (1 : Int32))]) (rest := []) q2495 q2496 yk_X2_in rfl (by decide) (by decide) (Nat.le_trans aw_0 (by decide)) rfl (mX2_in C.st ex7) dX2_figureFor_16) ?_
  refine v_if_ne (pc := 19) (tgt := 28) C dX2_figureFor_19 rfl (fun hc => ?_) (fun hc => ?_)
  · rw [if_neg hc] at hf
    refine v_aload_n (pc := 28) (j := 0) C dX2_figureFor_28 rfl rfl ?_
    obtain ⟨x9, ex9, hf⟩ := oB hf
    refine v_getF (pc := 29) C lk_X2_60 (gR_eq ex9) dX2_figureFor_29 ?_
    refine v_iload_n (pc := 32) (j := 1) C dX2_figureFor_32 rfl rfl ?_
    obtain ⟨b10, eb10, hf⟩ := oB hf
    obtain ⟨rb10, _, kb10⟩ := aIs_eq eb10
    obtain ⟨x11, ex11, hf⟩ := oB hf
    refine v_call (pc := 33) (d_V (pc := 33) C (As := [.int a1]) (rest := []) rb10 kb10 nt_15 q2520 yi_J2_get_java_util_ArrayList yk_J2_get rfl (by decide) (by decide) (Nat.le_trans aw_0 (by decide)) rfl (mJ2_get C.st ex11) dX2_figureFor_33) ?_
    obtain ⟨_, e13, hf⟩ := oB hf
    refine v_cast (pc := 36) C q2521 ct__I e13 dX2_figureFor_36 ?_
    refine v_iconst (pc := 39) (v := (0 : Int32)) C dX2_figureFor_39 rfl ?_
    obtain ⟨x14, ex14, hf⟩ := oB hf
    refine v_iaload (pc := 40) C ex14 dX2_figureFor_40 ?_
    refine v_istore_n (pc := 41) (lv' := [(2, false, .int x14), (0, false, va_rf a0), (1, false, .int a1)]) C dX2_figureFor_41 rfl (by decide) rfl ?_
    refine v_iconst (pc := 42) (v := (0 : Int32)) C dX2_figureFor_42 rfl ?_
    refine v_istore_n (pc := 43) (lv' := [(3, false, .int (0 : Int32)), (2, false, .int x14), (0, false, va_rf a0), (1, false, .int a1)]) C dX2_figureFor_43 rfl (by decide) rfl ?_
    refine v_iconst (pc := 44) (v := (0 : Int32)) C dX2_figureFor_44 rfl ?_
    refine v_istore (pc := 45) (lv' := [(4, false, .int (0 : Int32)), (3, false, .int (0 : Int32)), (2, false, .int x14), (0, false, va_rf a0), (1, false, .int a1)]) C dX2_figureFor_45 (by decide) rfl ?_
    refine v_bipush (pc := 47) (v := (8 : Int32)) C dX2_figureFor_47 rfl ?_
    obtain ⟨h15, eh15, hf⟩ := oB hf
    refine v_newarray (pc := 49) (t := 100) (v := .int 0) C q169 rfl rfl (by decide) (by decide) rfl eh15 dX2_figureFor_49 ?_
    refine v_astore (pc := 51) (lv' := [(5, false, va_rf (some h1.1)), (4, false, .int (0 : Int32)), (3, false, .int (0 : Int32)), (2, false, .int x14), (0, false, va_rf a0), (1, false, .int a1)]) C dX2_figureFor_51 (by decide) rfl ?_
    refine v_bipush (pc := 53) (v := (8 : Int32)) C dX2_figureFor_53 rfl ?_
    obtain ⟨h16, eh16, hf⟩ := oB hf
    refine v_newarray (pc := 55) (t := 100) (v := .int 0) C q169 rfl rfl (by decide) (by decide) rfl eh16 dX2_figureFor_55 ?_
    refine v_astore (pc := 57) (lv' := [(6, false, va_rf (some h15.1)), (5, false, va_rf (some h1.1)), (4, false, .int (0 : Int32)), (3, false, .int (0 : Int32)), (2, false, .int x14), (0, false, va_rf a0), (1, false, .int a1)]) C dX2_figureFor_57 (by decide) rfl ?_
    refine v_iconst (pc := 59) (v := (0 : Int32)) C dX2_figureFor_59 rfl ?_
    refine v_istore (pc := 60) (lv' := [(7, false, .int (0 : Int32)), (6, false, va_rf (some h15.1)), (5, false, va_rf (some h1.1)), (4, false, .int (0 : Int32)), (3, false, .int (0 : Int32)), (2, false, .int x14), (0, false, va_rf a0), (1, false, .int a1)]) C dX2_figureFor_60 (by decide) rfl ?_
    exact V.sub [6, 7, 5, 4, 3, 2, 1, 0] rfl (vX2_figureFor_p62 X _ _ _ _ _ _ _ _ _ _ _ _ hf)
  · rw [if_pos (Decidable.of_not_not hc)] at hf
    refine v_aload_n (pc := 22) (j := 0) C dX2_figureFor_22 rfl rfl ?_
    refine v_iconst (pc := 23) (v := (1 : Int32)) C dX2_figureFor_23 rfl ?_
    obtain ⟨b17, eb17, hf⟩ := oB hf
    obtain ⟨rb17, _, kb17⟩ := aIs_eq eb17
    obtain ⟨x18, h19, ex18, hf⟩ := bnd2_eq hf
    refine v_call (pc := 24) (d_V (pc := 24) C (As := [.int (1 : Int32)]) (rest := []) rb17 kb17 nt_1 q2498 yi_X2_err_FigureSurveyModel yk_X2_err rfl (by decide) (by decide) (Nat.le_trans aw_0 (by decide)) rfl (mX2_err C.st ex18) dX2_figureFor_24) ?_
    cases hf
    exact v_ireturn (pc := 27) C X.2.1 X.2.2.1 X.2.2.2.1 rfl dX2_figureFor_27
theorem mX2_figureFor {l : Launch} {D : aD} {h : aH} {a0 : Option Nat} {a1 : Int32} {q : Int32} {g : aH} (hst : l.stackTraces = false) (hf : fX2_figureFor D h a0 a1 = some (q, g)) : aM l D yX2_figureFor cX2_figureFor 14 (some .int) 7 164 [va_rf a0, .int a1] h (.inr (some (.int q)), g) :=
  aM.ofX [(false, va_rf a0), (false, .int a1)] rfl (ap_r (ap_c rfl ap_0)) (by decide +kernel) hst (al_of (aw_r (aw_i aw_0)) (by decide)) fun p e s m args below meth c X => V.sub (lv' := [(0, false, va_rf a0), (1, false, .int a1)]) [0, 1] rfl (vX2_figureFor X hf)
def fX2_tellName_p51 (D : aD) (h : aH) (a0 : Option Nat) : Option (Int32 × aH) :=
  (aIs h 1 a0).bind fun _ =>
  bnd2 (fX2_err D h a0 (2 : Int32)) fun x2 h3 =>
  some (x2, h3)
theorem vX2_tellName_p51 {h : aH} {a0 : Option Nat} {q : Int32} {g : aH} (X : aX p l R s m meth c D n0 s0 yX2_tellName cX2_tellName 7 152 7 (some .int) h0) (hf : fX2_tellName_p51 D h a0 = some (q, g)) : V p l e R s m args below meth c D n0 s0 (aEnd D below args s h0 (.inr (some (.int q)), g)) h 51 [(0, false, va_rf a0)] [] := by
  have C := X.1
  unfold fX2_tellName_p51 at hf
  refine v_aload_n (pc := 51) (j := 0) C dX2_tellName_51 rfl rfl ?_
  refine v_iconst (pc := 52) (v := (2 : Int32)) C dX2_tellName_52 rfl ?_
  obtain ⟨b1, eb1, hf⟩ := oB hf
  obtain ⟨rb1, _, kb1⟩ := aIs_eq eb1
  obtain ⟨x2, h3, ex2, hf⟩ := bnd2_eq hf
  refine v_call (pc := 53) (d_V (pc := 53) C (As := [.int (2 : Int32)]) (rest := []) rb1 kb1 nt_1 q2498 yi_X2_err_FigureSurveyModel yk_X2_err rfl (by decide) (by decide) (Nat.le_trans aw_0 (by decide)) rfl (mX2_err C.st ex2) dX2_tellName_53) ?_
  cases hf
  exact v_ireturn (pc := 56) C X.2.1 X.2.2.1 X.2.2.2.1 rfl dX2_tellName_56
def fX2_tellName_p146 (D : aD) (K109 : aH → (Option Nat) → Int32 → Int32 → Int32 → Option (Int32 × aH)) (h : aH) (a0 : Option Nat) (a1 : Int32) (a6 : Int32) (t0 : Int32) (t1 : Int32) : Option (Int32 × aH) :=
  (some ((t0 + t1))).bind fun x1 =>
  K109 h a0 a1 x1 (a6 + 1)
theorem vX2_tellName_p146 {h : aH} {K109 : aH → (Option Nat) → Int32 → Int32 → Int32 → Option (Int32 × aH)} {a0 : Option Nat} {a1 : Int32} {a6 : Int32} {t0 : Int32} {t1 : Int32} {q : Int32} {g : aH} (X : aX p l R s m meth c D n0 s0 yX2_tellName cX2_tellName 7 152 7 (some .int) h0) (k109 : ∀ (h : aH) (a0 : Option Nat) (a1 : Int32) (a5 : Int32) (a6 : Int32) (q : Int32) (g : aH), K109 h a0 a1 a5 a6 = some (q, g) → V p l e R s m args below meth c D n0 s0 (aEnd D below args s h0 (.inr (some (.int q)), g)) h 109 [(0, false, va_rf a0), (1, false, .int a1), (5, false, .int a5), (6, false, .int a6)] []) (hf : fX2_tellName_p146 D K109 h a0 a1 a6 t0 t1 = some (q, g)) : V p l e R s m args below meth c D n0 s0 (aEnd D below args s h0 (.inr (some (.int q)), g)) h 146 [(0, false, va_rf a0), (1, false, .int a1), (6, false, .int a6)] [.int t1, .int t0] := by
  have C := X.1
  unfold fX2_tellName_p146 at hf
  refine v_iadd (pc := 146) C dX2_tellName_146 ?_
  obtain ⟨x1, ex1, hf⟩ := oB hf
  refine vst (Option.some.inj ex1) (fun z => .int z :: []) ?_
  refine v_istore (pc := 147) (lv' := [(5, false, .int x1), (0, false, va_rf a0), (1, false, .int a1), (6, false, .int a6)]) C dX2_tellName_147 (by decide) rfl ?_
  refine v_iinc (pc := 149) (j := 3) (v := (a6 + 1)) (lv' := [(6, false, .int (a6 + 1)), (5, false, .int x1), (0, false, va_rf a0), (1, false, .int a1)]) C dX2_tellName_149 rfl rfl (by decide) rfl ?_
  refine v_goto (pc := 152) (tgt := 109) C dX2_tellName_152 rfl ?_
  exact V.sub [2, 3, 1, 0] rfl (k109 _ _ _ _ _ _ _ hf)
def fX2_tellName_p109 (D : aD) : Nat → aH → (Option Nat) → Int32 → Int32 → Int32 → Option (Int32 × aH)
  | 0, _, _, _, _, _ => none
  | n + 1, h, a0, a1, a5, a6 =>
  (gR h 1 18 a0).bind fun x1 =>
  (aIs h 15 x1).bind fun _ =>
  (fJ2_size D h x1).bind fun x3 =>
  if x3 ≤ a6 then
  (some (a5, h))
  else
  ((gR h 1 18 a0).bind fun x5 =>
  (aIs h 15 x5).bind fun _ =>
  (fJ2_get D h x5 a6).bind fun x7 =>
  (aCast h [100] x7).bind fun _ =>
  (eI h x7 (0 : Int32)).bind fun x10 =>
  fX2_tellName_p146 D (fX2_tellName_p109 D n) h a0 a1 a6 a5 (if x10 = a1 then (1 : Int32) else (0 : Int32)))
theorem vX2_tellName_p109 (X : aX p l R s m meth c D n0 s0 yX2_tellName cX2_tellName 7 152 7 (some .int) h0) : ∀ (n : Nat) (h : aH) (a0 : Option Nat) (a1 : Int32) (a5 : Int32) (a6 : Int32) (q : Int32) (g : aH), fX2_tellName_p109 D n h a0 a1 a5 a6 = some (q, g) → V p l e R s m args below meth c D n0 s0 (aEnd D below args s h0 (.inr (some (.int q)), g)) h 109 [(0, false, va_rf a0), (1, false, .int a1), (5, false, .int a5), (6, false, .int a6)] [] := by
  have C := X.1
  intro n
  induction n with
  | zero =>
    intro _ _ _ _ _ _ _ hf
    rw [fX2_tellName_p109] at hf
    cases hf
  | succ n ih =>
    intro h a0 a1 a5 a6 q g hf
    rw [fX2_tellName_p109] at hf
    refine v_iload (pc := 109) (j := 3) C dX2_tellName_109 rfl ?_
    refine v_aload_n (pc := 111) (j := 0) C dX2_tellName_111 rfl rfl ?_
    obtain ⟨x1, ex1, hf⟩ := oB hf
    refine v_getF (pc := 112) C lk_X2_63 (gR_eq ex1) dX2_tellName_112 ?_
    obtain ⟨b2, eb2, hf⟩ := oB hf
    obtain ⟨rb2, _, kb2⟩ := aIs_eq eb2
    obtain ⟨x3, ex3, hf⟩ := oB hf
    refine v_call (pc := 115) (d_V (pc := 115) C (As := []) (rest := [.int a6]) rb2 kb2 nt_15 q2502 yi_J2_size_java_util_ArrayList yk_J2_size rfl (by decide) (by decide) (Nat.le_trans (aw_i aw_0) (by decide)) rfl (mJ2_size C.st ex3) dX2_tellName_115) ?_
    refine v_icmp_ge (pc := 118) (tgt := 155) C dX2_tellName_118 rfl (fun hc => ?_) (fun hc => ?_)
    · rw [if_pos hc] at hf
      refine v_iload (pc := 155) (j := 2) C dX2_tellName_155 rfl ?_
      cases hf
      exact v_ireturn (pc := 157) C X.2.1 X.2.2.1 X.2.2.2.1 rfl dX2_tellName_157
    · rw [if_neg hc] at hf
      refine v_iload (pc := 121) (j := 2) C dX2_tellName_121 rfl ?_
      refine v_aload_n (pc := 123) (j := 0) C dX2_tellName_123 rfl rfl ?_
      obtain ⟨x5, ex5, hf⟩ := oB hf
      refine v_getF (pc := 124) C lk_X2_63 (gR_eq ex5) dX2_tellName_124 ?_
      refine v_iload (pc := 127) (j := 3) C dX2_tellName_127 rfl ?_
      obtain ⟨b6, eb6, hf⟩ := oB hf
      obtain ⟨rb6, _, kb6⟩ := aIs_eq eb6
      obtain ⟨x7, ex7, hf⟩ := oB hf
      refine v_call (pc := 129) (d_V (pc := 129) C (As := [.int a6]) (rest := [.int a5]) rb6 kb6 nt_15 q2520 yi_J2_get_java_util_ArrayList yk_J2_get rfl (by decide) (by decide) (Nat.le_trans (aw_i aw_0) (by decide)) rfl (mJ2_get C.st ex7) dX2_tellName_129) ?_
      obtain ⟨_, e9, hf⟩ := oB hf
      refine v_cast (pc := 132) C q2521 ct__I e9 dX2_tellName_132 ?_
      refine v_iconst (pc := 135) (v := (0 : Int32)) C dX2_tellName_135 rfl ?_
      obtain ⟨x10, ex10, hf⟩ := oB hf
      refine v_iaload (pc := 136) C ex10 dX2_tellName_136 ?_
      refine v_iload_n (pc := 137) (j := 1) C dX2_tellName_137 rfl rfl ?_
      refine v_icmp_ne (pc := 138) (tgt := 145) C dX2_tellName_138 rfl (fun hc => ?_) (fun hc => ?_)
      · simp only [if_neg hc] at hf
        refine v_iconst (pc := 145) (v := (0 : Int32)) C dX2_tellName_145 rfl ?_
        exact V.sub [0, 1, 3] rfl (vX2_tellName_p146 X ih hf)
      · simp only [if_pos (Decidable.of_not_not hc)] at hf
        refine v_iconst (pc := 141) (v := (1 : Int32)) C dX2_tellName_141 rfl ?_
        refine v_goto (pc := 142) (tgt := 146) C dX2_tellName_142 rfl ?_
        exact V.sub [0, 1, 3] rfl (vX2_tellName_p146 X ih hf)
def fX2_tellName (D : aD) (h : aH) (a0 : Option Nat) (a1 : Int32) (a2 : Int32) (a3 : Int32) (a4 : Int32) : Option (Int32 × aH) :=
  (pF D h 1 0 a0 (.int (0 : Int32))).bind fun h1 =>
  (aIs h1 1 a0).bind fun _ =>
  (fX2_noFigure D h1 a0 a1).bind fun x3 =>
  if x3 = 0 then
  ((fX2_in D h1 a2 (1 : Int32) (9999 : Int32)).bind fun x6 =>
  if x6 = 0 then
  (fX2_tellName_p51 D h1 a0)
  else
  ((fX2_in D h1 a3 (1 : Int32) (15 : Int32)).bind fun x9 =>
  if x9 = 0 then
  (fX2_tellName_p51 D h1 a0)
  else
  ((fX2_in D h1 a4 (1 : Int32) (15 : Int32)).bind fun x12 =>
  if x12 = 0 then
  (fX2_tellName_p51 D h1 a0)
  else
  ((gR h1 1 18 a0).bind fun x14 =>
  (aIs h1 15 x14).bind fun _ =>
  (fJ2_size D h1 x14).bind fun x16 =>
  if x16 = (40 : Int32) then
  ((aIs h1 1 a0).bind fun _ =>
  bnd2 (fX2_err D h1 a0 (3 : Int32)) fun x28 h29 =>
  some (x28, h29))
  else
  ((gR h1 1 18 a0).bind fun x18 =>
  (aMkA D h1 100 (4 : Int32) (.int 0)).bind fun h19 =>
  (sF D h19 100 (some h1.1) (0 : Int32) (.int a1)).bind fun h20 =>
  (sF D h20 100 (some h1.1) (1 : Int32) (.int a2)).bind fun h21 =>
  (sF D h21 100 (some h1.1) (2 : Int32) (.int a3)).bind fun h22 =>
  (sF D h22 100 (some h1.1) (3 : Int32) (.int a4)).bind fun h23 =>
  (aIs h23 15 x18).bind fun _ =>
  bnd2 (fJ2_add D h23 x18 (some h1.1)) fun x25 h26 =>
  fX2_tellName_p109 D FU h26 a0 a1 (0 : Int32) (0 : Int32))))))
  else
  ((aIs h1 1 a0).bind fun _ =>
  bnd2 (fX2_err D h1 a0 (1 : Int32)) fun x31 h32 =>
  some (x31, h32))
theorem vX2_tellName {h : aH} {a0 : Option Nat} {a1 : Int32} {a2 : Int32} {a3 : Int32} {a4 : Int32} {q : Int32} {g : aH} (X : aX p l R s m meth c D n0 s0 yX2_tellName cX2_tellName 7 152 7 (some .int) h0) (hf : fX2_tellName D h a0 a1 a2 a3 a4 = some (q, g)) : V p l e R s m args below meth c D n0 s0 (aEnd D below args s h0 (.inr (some (.int q)), g)) h 0 [(0, false, va_rf a0), (1, false, .int a1), (2, false, .int a2), (3, false, .int a3), (4, false, .int a4)] [] := by
  have C := X.1
  unfold fX2_tellName at hf
  refine v_aload_n (pc := 0) (j := 0) C dX2_tellName_0 rfl rfl ?_
  refine v_iconst (pc := 1) (v := (0 : Int32)) C dX2_tellName_1 rfl ?_
  obtain ⟨h1, eh1, hf⟩ := oB hf
  refine v_putF (pc := 2) C lk_X2_69 tyX2 tyX2_ok nmX2 (tyX2_ok 0 (by decide)) rfl rfl eh1 dX2_tellName_2 ?_
  refine v_aload_n (pc := 5) (j := 0) C dX2_tellName_5 rfl rfl ?_
  refine v_iload_n (pc := 6) (j := 1) C dX2_tellName_6 rfl rfl ?_
  obtain ⟨b2, eb2, hf⟩ := oB hf
  obtain ⟨rb2, _, kb2⟩ := aIs_eq eb2
  obtain ⟨x3, ex3, hf⟩ := oB hf
  refine v_call (pc := 7) (d_V (pc := 7) C (As := [.int a1]) (rest := []) rb2 kb2 nt_1 q2560 yi_X2_noFigure_FigureSurveyModel yk_X2_noFigure rfl (by decide) (by decide) (Nat.le_trans aw_0 (by decide)) rfl (mX2_noFigure C.st ex3) dX2_tellName_7) ?_
  refine v_if_eq (pc := 10) (tgt := 19) C dX2_tellName_10 rfl (fun hc => ?_) (fun hc => ?_)
  · rw [if_pos hc] at hf
    refine v_iload_n (pc := 19) (j := 2) C dX2_tellName_19 rfl rfl ?_
    refine v_iconst (pc := 20) (v := (1 : Int32)) C dX2_tellName_20 rfl ?_
    refine v_sipush (pc := 21) (v := (9999 : Int32)) C dX2_tellName_21 rfl ?_
    obtain ⟨x6, ex6, hf⟩ := oB hf
    refine v_call (pc := 24) (d_S (pc := 24) C (As := [.int a2, .int (1 : Int32), .int (9999 : Int32)]) (rest := []) q2495 q2496 yk_X2_in rfl (by decide) (by decide) (Nat.le_trans aw_0 (by decide)) rfl (mX2_in C.st ex6) dX2_tellName_24) ?_
    refine v_if_eq (pc := 27) (tgt := 51) C dX2_tellName_27 rfl (fun hc => ?_) (fun hc => ?_)
    · rw [if_pos hc] at hf
      exact V.sub [0] rfl (vX2_tellName_p51 X hf)
    · rw [if_neg hc] at hf
      refine v_iload_n (pc := 30) (j := 3) C dX2_tellName_30 rfl rfl ?_
      refine v_iconst (pc := 31) (v := (1 : Int32)) C dX2_tellName_31 rfl ?_
      refine v_bipush (pc := 32) (v := (15 : Int32)) C dX2_tellName_32 rfl ?_
      obtain ⟨x9, ex9, hf⟩ := oB hf
      refine v_call (pc := 34) (d_S (pc := 34) C (As := [.int a3, .int (1 : Int32), .int (15 : Int32)]) (rest := []) q2495 q2496 yk_X2_in rfl (by decide) (by decide) (Nat.le_trans aw_0 (by decide)) rfl (mX2_in C.st ex9) dX2_tellName_34) ?_
      refine v_if_eq (pc := 37) (tgt := 51) C dX2_tellName_37 rfl (fun hc => ?_) (fun hc => ?_)
      · rw [if_pos hc] at hf
        exact V.sub [0] rfl (vX2_tellName_p51 X hf)
      · rw [if_neg hc] at hf
        refine v_iload (pc := 40) (j := 4) C dX2_tellName_40 rfl ?_
        refine v_iconst (pc := 42) (v := (1 : Int32)) C dX2_tellName_42 rfl ?_
        refine v_bipush (pc := 43) (v := (15 : Int32)) C dX2_tellName_43 rfl ?_
        obtain ⟨x12, ex12, hf⟩ := oB hf
        refine v_call (pc := 45) (d_S (pc := 45) C (As := [.int a4, .int (1 : Int32), .int (15 : Int32)]) (rest := []) q2495 q2496 yk_X2_in rfl (by decide) (by decide) (Nat.le_trans aw_0 (by decide)) rfl (mX2_in C.st ex12) dX2_tellName_45) ?_
        refine v_if_ne (pc := 48) (tgt := 57) C dX2_tellName_48 rfl (fun hc => ?_) (fun hc => ?_)
        · rw [if_neg hc] at hf
          refine v_aload_n (pc := 57) (j := 0) C dX2_tellName_57 rfl rfl ?_
          obtain ⟨x14, ex14, hf⟩ := oB hf
          refine v_getF (pc := 58) C lk_X2_63 (gR_eq ex14) dX2_tellName_58 ?_
          obtain ⟨b15, eb15, hf⟩ := oB hf
          obtain ⟨rb15, _, kb15⟩ := aIs_eq eb15
          obtain ⟨x16, ex16, hf⟩ := oB hf
          refine v_call (pc := 61) (d_V (pc := 61) C (As := []) (rest := []) rb15 kb15 nt_15 q2502 yi_J2_size_java_util_ArrayList yk_J2_size rfl (by decide) (by decide) (Nat.le_trans aw_0 (by decide)) rfl (mJ2_size C.st ex16) dX2_tellName_61) ?_
          refine v_bipush (pc := 64) (v := (40 : Int32)) C dX2_tellName_64 rfl ?_
          refine v_icmp_ne (pc := 66) (tgt := 75) C dX2_tellName_66 rfl (fun hc => ?_) (fun hc => ?_)
          · rw [if_neg hc] at hf
            refine v_aload_n (pc := 75) (j := 0) C dX2_tellName_75 rfl rfl ?_
            obtain ⟨x18, ex18, hf⟩ := oB hf
            refine v_getF (pc := 76) C lk_X2_63 (gR_eq ex18) dX2_tellName_76 ?_
            refine v_iconst (pc := 79) (v := (4 : Int32)) C dX2_tellName_79 rfl ?_
            obtain ⟨h19, eh19, hf⟩ := oB hf
            refine v_newarray (pc := 80) (t := 100) (v := .int 0) C q169 rfl rfl (by decide) (by decide) rfl eh19 dX2_tellName_80 ?_
            refine v_dup (pc := 82) C dX2_tellName_82 (va_rfc _) ?_
            refine v_iconst (pc := 83) (v := (0 : Int32)) C dX2_tellName_83 rfl ?_
            refine v_iload_n (pc := 84) (j := 1) C dX2_tellName_84 rfl rfl ?_
            obtain ⟨h20, eh20, hf⟩ := oB hf
            refine v_iastore (pc := 85) C eh20 dX2_tellName_85 ?_
            refine v_dup (pc := 86) C dX2_tellName_86 (va_rfc _) ?_
            refine v_iconst (pc := 87) (v := (1 : Int32)) C dX2_tellName_87 rfl ?_
            refine v_iload_n (pc := 88) (j := 2) C dX2_tellName_88 rfl rfl ?_
            obtain ⟨h21, eh21, hf⟩ := oB hf
            refine v_iastore (pc := 89) C eh21 dX2_tellName_89 ?_
            refine v_dup (pc := 90) C dX2_tellName_90 (va_rfc _) ?_
            refine v_iconst (pc := 91) (v := (2 : Int32)) C dX2_tellName_91 rfl ?_
            refine v_iload_n (pc := 92) (j := 3) C dX2_tellName_92 rfl rfl ?_
            obtain ⟨h22, eh22, hf⟩ := oB hf
            refine v_iastore (pc := 93) C eh22 dX2_tellName_93 ?_
            refine v_dup (pc := 94) C dX2_tellName_94 (va_rfc _) ?_
            refine v_iconst (pc := 95) (v := (3 : Int32)) C dX2_tellName_95 rfl ?_
            refine v_iload (pc := 96) (j := 4) C dX2_tellName_96 rfl ?_
            obtain ⟨h23, eh23, hf⟩ := oB hf
            refine v_iastore (pc := 98) C eh23 dX2_tellName_98 ?_
            obtain ⟨b24, eb24, hf⟩ := oB hf
            obtain ⟨rb24, _, kb24⟩ := aIs_eq eb24
            obtain ⟨x25, h26, ex25, hf⟩ := bnd2_eq hf
            refine v_call (pc := 99) (d_V (pc := 99) C (As := [va_rf (some h1.1)]) (rest := []) rb24 kb24 nt_15 q2503 yi_J2_add_java_util_ArrayList yk_J2_add rfl (by decide) (by decide) (Nat.le_trans aw_0 (by decide)) rfl (mJ2_add C.st ex25) dX2_tellName_99) ?_
            refine v_pop (pc := 102) C dX2_tellName_102 rfl ?_
            refine v_iconst (pc := 103) (v := (0 : Int32)) C dX2_tellName_103 rfl ?_
            refine v_istore (pc := 104) (lv' := [(5, false, .int (0 : Int32)), (0, false, va_rf a0), (1, false, .int a1), (2, false, .int a2), (3, false, .int a3), (4, false, .int a4)]) C dX2_tellName_104 (by decide) rfl ?_
            refine v_iconst (pc := 106) (v := (0 : Int32)) C dX2_tellName_106 rfl ?_
            refine v_istore (pc := 107) (lv' := [(6, false, .int (0 : Int32)), (5, false, .int (0 : Int32)), (0, false, va_rf a0), (1, false, .int a1), (2, false, .int a2), (3, false, .int a3), (4, false, .int a4)]) C dX2_tellName_107 (by decide) rfl ?_
            exact V.sub [2, 3, 1, 0] rfl (vX2_tellName_p109 X _ _ _ _ _ _ _ _ hf)
          · rw [if_pos (Decidable.of_not_not hc)] at hf
            refine v_aload_n (pc := 69) (j := 0) C dX2_tellName_69 rfl rfl ?_
            refine v_iconst (pc := 70) (v := (3 : Int32)) C dX2_tellName_70 rfl ?_
            obtain ⟨b27, eb27, hf⟩ := oB hf
            obtain ⟨rb27, _, kb27⟩ := aIs_eq eb27
            obtain ⟨x28, h29, ex28, hf⟩ := bnd2_eq hf
            refine v_call (pc := 71) (d_V (pc := 71) C (As := [.int (3 : Int32)]) (rest := []) rb27 kb27 nt_1 q2498 yi_X2_err_FigureSurveyModel yk_X2_err rfl (by decide) (by decide) (Nat.le_trans aw_0 (by decide)) rfl (mX2_err C.st ex28) dX2_tellName_71) ?_
            cases hf
            exact v_ireturn (pc := 74) C X.2.1 X.2.2.1 X.2.2.2.1 rfl dX2_tellName_74
        · rw [if_pos (Decidable.of_not_not hc)] at hf
          exact V.sub [0] rfl (vX2_tellName_p51 X hf)
  · rw [if_neg hc] at hf
    refine v_aload_n (pc := 13) (j := 0) C dX2_tellName_13 rfl rfl ?_
    refine v_iconst (pc := 14) (v := (1 : Int32)) C dX2_tellName_14 rfl ?_
    obtain ⟨b30, eb30, hf⟩ := oB hf
    obtain ⟨rb30, _, kb30⟩ := aIs_eq eb30
    obtain ⟨x31, h32, ex31, hf⟩ := bnd2_eq hf
    refine v_call (pc := 15) (d_V (pc := 15) C (As := [.int (1 : Int32)]) (rest := []) rb30 kb30 nt_1 q2498 yi_X2_err_FigureSurveyModel yk_X2_err rfl (by decide) (by decide) (Nat.le_trans aw_0 (by decide)) rfl (mX2_err C.st ex31) dX2_tellName_15) ?_
    cases hf
    exact v_ireturn (pc := 18) C X.2.1 X.2.2.1 X.2.2.2.1 rfl dX2_tellName_18
theorem mX2_tellName {l : Launch} {D : aD} {h : aH} {a0 : Option Nat} {a1 : Int32} {a2 : Int32} {a3 : Int32} {a4 : Int32} {q : Int32} {g : aH} (hst : l.stackTraces = false) (hf : fX2_tellName D h a0 a1 a2 a3 a4 = some (q, g)) : aM l D yX2_tellName cX2_tellName 7 (some .int) 7 152 [va_rf a0, .int a1, .int a2, .int a3, .int a4] h (.inr (some (.int q)), g) :=
  aM.ofX [(false, va_rf a0), (false, .int a1), (false, .int a2), (false, .int a3), (false, .int a4)] rfl (ap_r (ap_c rfl (ap_c rfl (ap_c rfl (ap_c rfl ap_0))))) (by decide +kernel) hst (al_of (aw_r (aw_i (aw_i (aw_i (aw_i aw_0))))) (by decide)) fun p e s m args below meth c X => V.sub (lv' := [(0, false, va_rf a0), (1, false, .int a1), (2, false, .int a2), (3, false, .int a3), (4, false, .int a4)]) [0, 1, 2, 3, 4] rfl (vX2_tellName X hf)
def fX2_nameFor_p37 (D : aD) (h : aH) (a0 : Option Nat) : Option (Int32 × aH) :=
  (aIs h 1 a0).bind fun _ =>
  bnd2 (fX2_err D h a0 (2 : Int32)) fun x2 h3 =>
  some (x2, h3)
theorem vX2_nameFor_p37 {h : aH} {a0 : Option Nat} {q : Int32} {g : aH} (X : aX p l R s m meth c D n0 s0 yX2_nameFor cX2_nameFor 3 64 7 (some .int) h0) (hf : fX2_nameFor_p37 D h a0 = some (q, g)) : V p l e R s m args below meth c D n0 s0 (aEnd D below args s h0 (.inr (some (.int q)), g)) h 37 [(0, false, va_rf a0)] [] := by
  have C := X.1
  unfold fX2_nameFor_p37 at hf
  refine v_aload_n (pc := 37) (j := 0) C dX2_nameFor_37 rfl rfl ?_
  refine v_iconst (pc := 38) (v := (2 : Int32)) C dX2_nameFor_38 rfl ?_
  obtain ⟨b1, eb1, hf⟩ := oB hf
  obtain ⟨rb1, _, kb1⟩ := aIs_eq eb1
  obtain ⟨x2, h3, ex2, hf⟩ := bnd2_eq hf
  refine v_call (pc := 39) (d_V (pc := 39) C (As := [.int (2 : Int32)]) (rest := []) rb1 kb1 nt_1 q2498 yi_X2_err_FigureSurveyModel yk_X2_err rfl (by decide) (by decide) (Nat.le_trans aw_0 (by decide)) rfl (mX2_err C.st ex2) dX2_nameFor_39) ?_
  cases hf
  exact v_ireturn (pc := 42) C X.2.1 X.2.2.1 X.2.2.2.1 rfl dX2_nameFor_42
def fX2_nameFor_p113 (D : aD) (K49 : aH → (Option Nat) → Int32 → Int32 → Int32 → Int32 → Int32 → Option (Int32 × aH)) (h : aH) (a0 : Option Nat) (a1 : Int32) (a2 : Int32) (a3 : Int32) (a4 : Int32) (a5 : Int32) : Option (Int32 × aH) :=
  K49 h a0 a1 a2 a3 a4 (a5 + 1)
theorem vX2_nameFor_p113 {h : aH} {K49 : aH → (Option Nat) → Int32 → Int32 → Int32 → Int32 → Int32 → Option (Int32 × aH)} {a0 : Option Nat} {a1 : Int32} {a2 : Int32} {a3 : Int32} {a4 : Int32} {a5 : Int32} {q : Int32} {g : aH} (X : aX p l R s m meth c D n0 s0 yX2_nameFor cX2_nameFor 3 64 7 (some .int) h0) (k49 : ∀ (h : aH) (a0 : Option Nat) (a1 : Int32) (a2 : Int32) (a3 : Int32) (a4 : Int32) (a5 : Int32) (q : Int32) (g : aH), K49 h a0 a1 a2 a3 a4 a5 = some (q, g) → V p l e R s m args below meth c D n0 s0 (aEnd D below args s h0 (.inr (some (.int q)), g)) h 49 [(0, false, va_rf a0), (1, false, .int a1), (2, false, .int a2), (3, false, .int a3), (4, false, .int a4), (5, false, .int a5)] []) (hf : fX2_nameFor_p113 D K49 h a0 a1 a2 a3 a4 a5 = some (q, g)) : V p l e R s m args below meth c D n0 s0 (aEnd D below args s h0 (.inr (some (.int q)), g)) h 113 [(0, false, va_rf a0), (1, false, .int a1), (2, false, .int a2), (3, false, .int a3), (4, false, .int a4), (5, false, .int a5)] [] := by
  have C := X.1
  unfold fX2_nameFor_p113 at hf
  refine v_iinc (pc := 113) (j := 5) (v := (a5 + 1)) (lv' := [(5, false, .int (a5 + 1)), (0, false, va_rf a0), (1, false, .int a1), (2, false, .int a2), (3, false, .int a3), (4, false, .int a4)]) C dX2_nameFor_113 rfl rfl (by decide) rfl ?_
  refine v_goto (pc := 116) (tgt := 49) C dX2_nameFor_116 rfl ?_
  exact V.sub [1, 2, 3, 4, 5, 0] rfl (k49 _ _ _ _ _ _ _ _ _ hf)
def fX2_nameFor_p49 (D : aD) : Nat → aH → (Option Nat) → Int32 → Int32 → Int32 → Int32 → Int32 → Option (Int32 × aH)
  | 0, _, _, _, _, _, _, _ => none
  | n + 1, h, a0, a1, a2, a3, a4, a5 =>
  (gR h 1 18 a0).bind fun x1 =>
  (aIs h 15 x1).bind fun _ =>
  (fJ2_size D h x1).bind fun x3 =>
  if x3 ≤ a5 then
  (some (a4, h))
  else
  ((gR h 1 18 a0).bind fun x5 =>
  (aIs h 15 x5).bind fun _ =>
  (fJ2_get D h x5 a5).bind fun x7 =>
  (aCast h [100] x7).bind fun _ =>
  (eI h x7 (0 : Int32)).bind fun x10 =>
  if x10 = a1 then
  ((eI h x7 (2 : Int32)).bind fun x11 =>
  if ((x11 >>> (a2 &&& 31)) &&& (1 : Int32)) = (1 : Int32) then
  ((eI h x7 (3 : Int32)).bind fun x12 =>
  if ((x12 >>> (a3 &&& 31)) &&& (1 : Int32)) = (1 : Int32) then
  ((eI h x7 (1 : Int32)).bind fun x13 =>
  fX2_nameFor_p113 D (fX2_nameFor_p49 D n) h a0 a1 a2 a3 x13 a5)
  else
  (fX2_nameFor_p113 D (fX2_nameFor_p49 D n) h a0 a1 a2 a3 a4 a5))
  else
  (fX2_nameFor_p113 D (fX2_nameFor_p49 D n) h a0 a1 a2 a3 a4 a5))
  else
  (fX2_nameFor_p113 D (fX2_nameFor_p49 D n) h a0 a1 a2 a3 a4 a5))
theorem vX2_nameFor_p49 (X : aX p l R s m meth c D n0 s0 yX2_nameFor cX2_nameFor 3 64 7 (some .int) h0) : ∀ (n : Nat) (h : aH) (a0 : Option Nat) (a1 : Int32) (a2 : Int32) (a3 : Int32) (a4 : Int32) (a5 : Int32) (q : Int32) (g : aH), fX2_nameFor_p49 D n h a0 a1 a2 a3 a4 a5 = some (q, g) → V p l e R s m args below meth c D n0 s0 (aEnd D below args s h0 (.inr (some (.int q)), g)) h 49 [(0, false, va_rf a0), (1, false, .int a1), (2, false, .int a2), (3, false, .int a3), (4, false, .int a4), (5, false, .int a5)] [] := by
  have C := X.1
  intro n
  induction n with
  | zero =>
    intro _ _ _ _ _ _ _ _ _ hf
    rw [fX2_nameFor_p49] at hf
    cases hf
  | succ n ih =>
    intro h a0 a1 a2 a3 a4 a5 q g hf
    rw [fX2_nameFor_p49] at hf
    refine v_iload (pc := 49) (j := 5) C dX2_nameFor_49 rfl ?_
    refine v_aload_n (pc := 51) (j := 0) C dX2_nameFor_51 rfl rfl ?_
    obtain ⟨x1, ex1, hf⟩ := oB hf
    refine v_getF (pc := 52) C lk_X2_63 (gR_eq ex1) dX2_nameFor_52 ?_
    obtain ⟨b2, eb2, hf⟩ := oB hf
    obtain ⟨rb2, _, kb2⟩ := aIs_eq eb2
    obtain ⟨x3, ex3, hf⟩ := oB hf
    refine v_call (pc := 55) (d_V (pc := 55) C (As := []) (rest := [.int a5]) rb2 kb2 nt_15 q2502 yi_J2_size_java_util_ArrayList yk_J2_size rfl (by decide) (by decide) (Nat.le_trans (aw_i aw_0) (by decide)) rfl (mJ2_size C.st ex3) dX2_nameFor_55) ?_
    refine v_icmp_ge (pc := 58) (tgt := 119) C dX2_nameFor_58 rfl (fun hc => ?_) (fun hc => ?_)
    · rw [if_pos hc] at hf
      refine v_iload (pc := 119) (j := 4) C dX2_nameFor_119 rfl ?_
      cases hf
      exact v_ireturn (pc := 121) C X.2.1 X.2.2.1 X.2.2.2.1 rfl dX2_nameFor_121
    · rw [if_neg hc] at hf
      refine v_aload_n (pc := 61) (j := 0) C dX2_nameFor_61 rfl rfl ?_
      obtain ⟨x5, ex5, hf⟩ := oB hf
      refine v_getF (pc := 62) C lk_X2_63 (gR_eq ex5) dX2_nameFor_62 ?_
      refine v_iload (pc := 65) (j := 5) C dX2_nameFor_65 rfl ?_
      obtain ⟨b6, eb6, hf⟩ := oB hf
      obtain ⟨rb6, _, kb6⟩ := aIs_eq eb6
      obtain ⟨x7, ex7, hf⟩ := oB hf
      refine v_call (pc := 67) (d_V (pc := 67) C (As := [.int a5]) (rest := []) rb6 kb6 nt_15 q2520 yi_J2_get_java_util_ArrayList yk_J2_get rfl (by decide) (by decide) (Nat.le_trans aw_0 (by decide)) rfl (mJ2_get C.st ex7) dX2_nameFor_67) ?_
      obtain ⟨_, e9, hf⟩ := oB hf
      refine v_cast (pc := 70) C q2521 ct__I e9 dX2_nameFor_70 ?_
      refine v_astore (pc := 73) (lv' := [(6, false, va_rf x7), (0, false, va_rf a0), (1, false, .int a1), (2, false, .int a2), (3, false, .int a3), (4, false, .int a4), (5, false, .int a5)]) C dX2_nameFor_73 (by decide) rfl ?_
      refine v_aload (pc := 75) (j := 0) C dX2_nameFor_75 rfl ?_
      refine v_iconst (pc := 77) (v := (0 : Int32)) C dX2_nameFor_77 rfl ?_
      obtain ⟨x10, ex10, hf⟩ := oB hf
      refine v_iaload (pc := 78) C ex10 dX2_nameFor_78 ?_
      refine v_iload_n (pc := 79) (j := 2) C dX2_nameFor_79 rfl rfl ?_
      refine v_icmp_ne (pc := 80) (tgt := 113) C dX2_nameFor_80 rfl (fun hc => ?_) (fun hc => ?_)
      · rw [if_neg hc] at hf
        exact V.sub [1, 2, 3, 4, 5, 6] rfl (vX2_nameFor_p113 X ih hf)
      · rw [if_pos (Decidable.of_not_not hc)] at hf
        refine v_aload (pc := 83) (j := 0) C dX2_nameFor_83 rfl ?_
        refine v_iconst (pc := 85) (v := (2 : Int32)) C dX2_nameFor_85 rfl ?_
        obtain ⟨x11, ex11, hf⟩ := oB hf
        refine v_iaload (pc := 86) C ex11 dX2_nameFor_86 ?_
        refine v_iload_n (pc := 87) (j := 3) C dX2_nameFor_87 rfl rfl ?_
        refine v_ishr (pc := 88) C dX2_nameFor_88 ?_
        refine v_iconst (pc := 89) (v := (1 : Int32)) C dX2_nameFor_89 rfl ?_
        refine v_iand (pc := 90) C dX2_nameFor_90 ?_
        refine v_iconst (pc := 91) (v := (1 : Int32)) C dX2_nameFor_91 rfl ?_
        refine v_icmp_ne (pc := 92) (tgt := 113) C dX2_nameFor_92 rfl (fun hc => ?_) (fun hc => ?_)
        · rw [if_neg hc] at hf
          exact V.sub [1, 2, 3, 4, 5, 6] rfl (vX2_nameFor_p113 X ih hf)
        · rw [if_pos (Decidable.of_not_not hc)] at hf
          refine v_aload (pc := 95) (j := 0) C dX2_nameFor_95 rfl ?_
          refine v_iconst (pc := 97) (v := (3 : Int32)) C dX2_nameFor_97 rfl ?_
          obtain ⟨x12, ex12, hf⟩ := oB hf
          refine v_iaload (pc := 98) C ex12 dX2_nameFor_98 ?_
          refine v_iload_n (pc := 99) (j := 4) C dX2_nameFor_99 rfl rfl ?_
          refine v_ishr (pc := 100) C dX2_nameFor_100 ?_
          refine v_iconst (pc := 101) (v := (1 : Int32)) C dX2_nameFor_101 rfl ?_
          refine v_iand (pc := 102) C dX2_nameFor_102 ?_
          refine v_iconst (pc := 103) (v := (1 : Int32)) C dX2_nameFor_103 rfl ?_
          refine v_icmp_ne (pc := 104) (tgt := 113) C dX2_nameFor_104 rfl (fun hc => ?_) (fun hc => ?_)
          · rw [if_neg hc] at hf
            exact V.sub [1, 2, 3, 4, 5, 6] rfl (vX2_nameFor_p113 X ih hf)
          · rw [if_pos (Decidable.of_not_not hc)] at hf
            refine v_aload (pc := 107) (j := 0) C dX2_nameFor_107 rfl ?_
            refine v_iconst (pc := 109) (v := (1 : Int32)) C dX2_nameFor_109 rfl ?_
            obtain ⟨x13, ex13, hf⟩ := oB hf
            refine v_iaload (pc := 110) C ex13 dX2_nameFor_110 ?_
            refine v_istore (pc := 111) (lv' := [(4, false, .int x13), (6, false, va_rf x7), (0, false, va_rf a0), (1, false, .int a1), (2, false, .int a2), (3, false, .int a3), (5, false, .int a5)]) C dX2_nameFor_111 (by decide) rfl ?_
            exact V.sub [2, 3, 4, 5, 0, 6] rfl (vX2_nameFor_p113 X ih hf)
def fX2_nameFor (D : aD) (h : aH) (a0 : Option Nat) (a1 : Int32) (a2 : Int32) (a3 : Int32) : Option (Int32 × aH) :=
  (pF D h 1 0 a0 (.int (0 : Int32))).bind fun h1 =>
  (aIs h1 1 a0).bind fun _ =>
  (fX2_noFigure D h1 a0 a1).bind fun x3 =>
  if x3 = 0 then
  ((fX2_in D h1 a2 (0 : Int32) (3 : Int32)).bind fun x6 =>
  if x6 = 0 then
  (fX2_nameFor_p37 D h1 a0)
  else
  ((fX2_in D h1 a3 (0 : Int32) (3 : Int32)).bind fun x9 =>
  if x9 = 0 then
  (fX2_nameFor_p37 D h1 a0)
  else
  (fX2_nameFor_p49 D FU h1 a0 a1 a2 a3 (-1 : Int32) (0 : Int32))))
  else
  ((aIs h1 1 a0).bind fun _ =>
  bnd2 (fX2_err D h1 a0 (1 : Int32)) fun x12 h13 =>
  some (x12, h13))
theorem vX2_nameFor {h : aH} {a0 : Option Nat} {a1 : Int32} {a2 : Int32} {a3 : Int32} {q : Int32} {g : aH} (X : aX p l R s m meth c D n0 s0 yX2_nameFor cX2_nameFor 3 64 7 (some .int) h0) (hf : fX2_nameFor D h a0 a1 a2 a3 = some (q, g)) : V p l e R s m args below meth c D n0 s0 (aEnd D below args s h0 (.inr (some (.int q)), g)) h 0 [(0, false, va_rf a0), (1, false, .int a1), (2, false, .int a2), (3, false, .int a3)] [] := by
  have C := X.1
  unfold fX2_nameFor at hf
  refine v_aload_n (pc := 0) (j := 0) C dX2_nameFor_0 rfl rfl ?_
  refine v_iconst (pc := 1) (v := (0 : Int32)) C dX2_nameFor_1 rfl ?_
  obtain ⟨h1, eh1, hf⟩ := oB hf
  refine v_putF (pc := 2) C lk_X2_69 tyX2 tyX2_ok nmX2 (tyX2_ok 0 (by decide)) rfl rfl eh1 dX2_nameFor_2 ?_
  refine v_aload_n (pc := 5) (j := 0) C dX2_nameFor_5 rfl rfl ?_
  refine v_iload_n (pc := 6) (j := 1) C dX2_nameFor_6 rfl rfl ?_
  obtain ⟨b2, eb2, hf⟩ := oB hf
  obtain ⟨rb2, _, kb2⟩ := aIs_eq eb2
  obtain ⟨x3, ex3, hf⟩ := oB hf
  refine v_call (pc := 7) (d_V (pc := 7) C (As := [.int a1]) (rest := []) rb2 kb2 nt_1 q2560 yi_X2_noFigure_FigureSurveyModel yk_X2_noFigure rfl (by decide) (by decide) (Nat.le_trans aw_0 (by decide)) rfl (mX2_noFigure C.st ex3) dX2_nameFor_7) ?_
  refine v_if_eq (pc := 10) (tgt := 19) C dX2_nameFor_10 rfl (fun hc => ?_) (fun hc => ?_)
  · rw [if_pos hc] at hf
    refine v_iload_n (pc := 19) (j := 2) C dX2_nameFor_19 rfl rfl ?_
    refine v_iconst (pc := 20) (v := (0 : Int32)) C dX2_nameFor_20 rfl ?_
    refine v_iconst (pc := 21) (v := (3 : Int32)) C dX2_nameFor_21 rfl ?_
    obtain ⟨x6, ex6, hf⟩ := oB hf
    refine v_call (pc := 22) (d_S (pc := 22) C (As := [.int a2, .int (0 : Int32), .int (3 : Int32)]) (rest := []) q2495 q2496 yk_X2_in rfl (by decide) (by decide) (Nat.le_trans aw_0 (by decide)) rfl (mX2_in C.st ex6) dX2_nameFor_22) ?_
    refine v_if_eq (pc := 25) (tgt := 37) C dX2_nameFor_25 rfl (fun hc => ?_) (fun hc => ?_)
    · rw [if_pos hc] at hf
      exact V.sub [0] rfl (vX2_nameFor_p37 X hf)
    · rw [if_neg hc] at hf
      refine v_iload_n (pc := 28) (j := 3) C dX2_nameFor_28 rfl rfl ?_
      refine v_iconst (pc := 29) (v := (0 : Int32)) C dX2_nameFor_29 rfl ?_
      refine v_iconst (pc := 30) (v := (3 : Int32)) C dX2_nameFor_30 rfl ?_
      obtain ⟨x9, ex9, hf⟩ := oB hf
      refine v_call (pc := 31) (d_S (pc := 31) C (As := [.int a3, .int (0 : Int32), .int (3 : Int32)]) (rest := []) q2495 q2496 yk_X2_in rfl (by decide) (by decide) (Nat.le_trans aw_0 (by decide)) rfl (mX2_in C.st ex9) dX2_nameFor_31) ?_
      refine v_if_ne (pc := 34) (tgt := 43) C dX2_nameFor_34 rfl (fun hc => ?_) (fun hc => ?_)
      · rw [if_neg hc] at hf
        refine v_iconst (pc := 43) (v := (-1 : Int32)) C dX2_nameFor_43 rfl ?_
        refine v_istore (pc := 44) (lv' := [(4, false, .int (-1 : Int32)), (0, false, va_rf a0), (1, false, .int a1), (2, false, .int a2), (3, false, .int a3)]) C dX2_nameFor_44 (by decide) rfl ?_
        refine v_iconst (pc := 46) (v := (0 : Int32)) C dX2_nameFor_46 rfl ?_
        refine v_istore (pc := 47) (lv' := [(5, false, .int (0 : Int32)), (4, false, .int (-1 : Int32)), (0, false, va_rf a0), (1, false, .int a1), (2, false, .int a2), (3, false, .int a3)]) C dX2_nameFor_47 (by decide) rfl ?_
        exact V.sub [2, 3, 4, 5, 1, 0] rfl (vX2_nameFor_p49 X _ _ _ _ _ _ _ _ _ _ hf)
      · rw [if_pos (Decidable.of_not_not hc)] at hf
        exact V.sub [0] rfl (vX2_nameFor_p37 X hf)
  · rw [if_neg hc] at hf
    refine v_aload_n (pc := 13) (j := 0) C dX2_nameFor_13 rfl rfl ?_
    refine v_iconst (pc := 14) (v := (1 : Int32)) C dX2_nameFor_14 rfl ?_
    obtain ⟨b11, eb11, hf⟩ := oB hf
    obtain ⟨rb11, _, kb11⟩ := aIs_eq eb11
    obtain ⟨x12, h13, ex12, hf⟩ := bnd2_eq hf
    refine v_call (pc := 15) (d_V (pc := 15) C (As := [.int (1 : Int32)]) (rest := []) rb11 kb11 nt_1 q2498 yi_X2_err_FigureSurveyModel yk_X2_err rfl (by decide) (by decide) (Nat.le_trans aw_0 (by decide)) rfl (mX2_err C.st ex12) dX2_nameFor_15) ?_
    cases hf
    exact v_ireturn (pc := 18) C X.2.1 X.2.2.1 X.2.2.2.1 rfl dX2_nameFor_18
theorem mX2_nameFor {l : Launch} {D : aD} {h : aH} {a0 : Option Nat} {a1 : Int32} {a2 : Int32} {a3 : Int32} {q : Int32} {g : aH} (hst : l.stackTraces = false) (hf : fX2_nameFor D h a0 a1 a2 a3 = some (q, g)) : aM l D yX2_nameFor cX2_nameFor 7 (some .int) 3 64 [va_rf a0, .int a1, .int a2, .int a3] h (.inr (some (.int q)), g) :=
  aM.ofX [(false, va_rf a0), (false, .int a1), (false, .int a2), (false, .int a3)] rfl (ap_r (ap_c rfl (ap_c rfl (ap_c rfl ap_0)))) (by decide +kernel) hst (al_of (aw_r (aw_i (aw_i (aw_i aw_0)))) (by decide)) fun p e s m args below meth c X => V.sub (lv' := [(0, false, va_rf a0), (1, false, .int a1), (2, false, .int a2), (3, false, .int a3)]) [0, 1, 2, 3] rfl (vX2_nameFor X hf)
def fX2_setRight_p114 (D : aD) (h : aH) (a5 : Int32) (t0 : Option Nat) (t1 : Int32) (t2 : Int32) : Option (Int32 × aH) :=
  (sF D h 100 t0 t1 (.int t2)).bind fun h1 =>
  (ckZ a5).bind fun _ =>
  some (a5, h1)
theorem vX2_setRight_p114 {h : aH} {a5 : Int32} {t0 : Option Nat} {t1 : Int32} {t2 : Int32} {q : Int32} {g : aH} (X : aX p l R s m meth c D n0 s0 yX2_setRight cX2_setRight 3 64 6 (some .boolean) h0) (hf : fX2_setRight_p114 D h a5 t0 t1 t2 = some (q, g)) : V p l e R s m args below meth c D n0 s0 (aEnd D below args s h0 (.inr (some (.int q)), g)) h 114 [(5, false, .int a5)] [.int t2, .int t1, va_rf t0] := by
  have C := X.1
  unfold fX2_setRight_p114 at hf
  obtain ⟨h1, eh1, hf⟩ := oB hf
  refine v_iastore (pc := 114) C eh1 dX2_setRight_114 ?_
  refine v_iload (pc := 115) (j := 0) C dX2_setRight_115 rfl ?_
  obtain ⟨_, e2, hf⟩ := oB hf
  cases hf
  exact v_zreturn (pc := 117) C X.2.1 X.2.2.1 X.2.2.2.1 (ckZ_eq e2) rfl dX2_setRight_117
def fX2_setRight_p81 (D : aD) (h : aH) (a2 : Int32) (a3 : Int32) (a4 : Option Nat) (t0 : Int32) : Option (Int32 × aH) :=
  if a3 = 0 then
  ((eI h a4 (9 : Int32)).bind fun x1 =>
  fX2_setRight_p114 D h t0 a4 (9 : Int32) (x1 &&& (((1 : Int32) <<< (a2 &&& 31)) ^^^ (-1 : Int32))))
  else
  ((eI h a4 (9 : Int32)).bind fun x2 =>
  fX2_setRight_p114 D h t0 a4 (9 : Int32) (x2 ||| ((1 : Int32) <<< (a2 &&& 31))))
theorem vX2_setRight_p81 {h : aH} {a2 : Int32} {a3 : Int32} {a4 : Option Nat} {t0 : Int32} {q : Int32} {g : aH} (X : aX p l R s m meth c D n0 s0 yX2_setRight cX2_setRight 3 64 6 (some .boolean) h0) (hf : fX2_setRight_p81 D h a2 a3 a4 t0 = some (q, g)) : V p l e R s m args below meth c D n0 s0 (aEnd D below args s h0 (.inr (some (.int q)), g)) h 81 [(2, false, .int a2), (3, false, .int a3), (4, false, va_rf a4)] [.int t0] := by
  have C := X.1
  unfold fX2_setRight_p81 at hf
  refine v_istore (pc := 81) (lv' := [(5, false, .int t0), (2, false, .int a2), (3, false, .int a3), (4, false, va_rf a4)]) C dX2_setRight_81 (by decide) rfl ?_
  refine v_aload (pc := 83) (j := 3) C dX2_setRight_83 rfl ?_
  refine v_bipush (pc := 85) (v := (9 : Int32)) C dX2_setRight_85 rfl ?_
  refine v_iload_n (pc := 87) (j := 2) C dX2_setRight_87 rfl rfl ?_
  refine v_if_eq (pc := 88) (tgt := 103) C dX2_setRight_88 rfl (fun hc => ?_) (fun hc => ?_)
  · rw [if_pos hc] at hf
    refine v_aload (pc := 103) (j := 3) C dX2_setRight_103 rfl ?_
    refine v_bipush (pc := 105) (v := (9 : Int32)) C dX2_setRight_105 rfl ?_
    obtain ⟨x1, ex1, hf⟩ := oB hf
    refine v_iaload (pc := 107) C ex1 dX2_setRight_107 ?_
    refine v_iconst (pc := 108) (v := (1 : Int32)) C dX2_setRight_108 rfl ?_
    refine v_iload_n (pc := 109) (j := 1) C dX2_setRight_109 rfl rfl ?_
    refine v_ishl (pc := 110) C dX2_setRight_110 ?_
    refine v_iconst (pc := 111) (v := (-1 : Int32)) C dX2_setRight_111 rfl ?_
    refine v_ixor (pc := 112) C dX2_setRight_112 ?_
    refine v_iand (pc := 113) C dX2_setRight_113 ?_
    exact V.sub [0] rfl (vX2_setRight_p114 X hf)
  · rw [if_neg hc] at hf
    refine v_aload (pc := 91) (j := 3) C dX2_setRight_91 rfl ?_
    refine v_bipush (pc := 93) (v := (9 : Int32)) C dX2_setRight_93 rfl ?_
    obtain ⟨x2, ex2, hf⟩ := oB hf
    refine v_iaload (pc := 95) C ex2 dX2_setRight_95 ?_
    refine v_iconst (pc := 96) (v := (1 : Int32)) C dX2_setRight_96 rfl ?_
    refine v_iload_n (pc := 97) (j := 1) C dX2_setRight_97 rfl rfl ?_
    refine v_ishl (pc := 98) C dX2_setRight_98 ?_
    refine v_ior (pc := 99) C dX2_setRight_99 ?_
    refine v_goto (pc := 100) (tgt := 114) C dX2_setRight_100 rfl ?_
    exact V.sub [0] rfl (vX2_setRight_p114 X hf)
def fX2_setRight (D : aD) (h : aH) (a0 : Option Nat) (a1 : Int32) (a2 : Int32) (a3 : Int32) : Option (Int32 × aH) :=
  (pF D h 1 0 a0 (.int (0 : Int32))).bind fun h1 =>
  (aIs h1 1 a0).bind fun _ =>
  (fX2_noPanel D h1 a0 a1).bind fun x3 =>
  if x3 = 0 then
  ((fX2_in D h1 a2 (0 : Int32) (3 : Int32)).bind fun x6 =>
  if x6 = 0 then
  ((aIs h1 1 a0).bind fun _ =>
  bnd2 (fX2_err D h1 a0 (2 : Int32)) fun x15 h16 =>
  if x15 ≤ 0 then
  (some ((0 : Int32), h16))
  else
  (some ((1 : Int32), h16)))
  else
  ((gR h1 1 4 a0).bind fun x8 =>
  (aIs h1 15 x8).bind fun _ =>
  (fJ2_get D h1 x8 a1).bind fun x10 =>
  (aCast h1 [100] x10).bind fun _ =>
  (eI h1 x10 (9 : Int32)).bind fun x13 =>
  fX2_setRight_p81 D h1 a2 a3 x10 (if ((x13 >>> (a2 &&& 31)) &&& (1 : Int32)) = (1 : Int32) then (1 : Int32) else (0 : Int32))))
  else
  ((aIs h1 1 a0).bind fun _ =>
  bnd2 (fX2_err D h1 a0 (1 : Int32)) fun x18 h19 =>
  if x18 ≤ 0 then
  (some ((0 : Int32), h19))
  else
  (some ((1 : Int32), h19)))
theorem vX2_setRight {h : aH} {a0 : Option Nat} {a1 : Int32} {a2 : Int32} {a3 : Int32} {q : Int32} {g : aH} (X : aX p l R s m meth c D n0 s0 yX2_setRight cX2_setRight 3 64 6 (some .boolean) h0) (hf : fX2_setRight D h a0 a1 a2 a3 = some (q, g)) : V p l e R s m args below meth c D n0 s0 (aEnd D below args s h0 (.inr (some (.int q)), g)) h 0 [(0, false, va_rf a0), (1, false, .int a1), (2, false, .int a2), (3, false, .int a3)] [] := by
  have C := X.1
  unfold fX2_setRight at hf
  refine v_aload_n (pc := 0) (j := 0) C dX2_setRight_0 rfl rfl ?_
  refine v_iconst (pc := 1) (v := (0 : Int32)) C dX2_setRight_1 rfl ?_
  obtain ⟨h1, eh1, hf⟩ := oB hf
  refine v_putF (pc := 2) C lk_X2_69 tyX2 tyX2_ok nmX2 (tyX2_ok 0 (by decide)) rfl rfl eh1 dX2_setRight_2 ?_
  refine v_aload_n (pc := 5) (j := 0) C dX2_setRight_5 rfl rfl ?_
  refine v_iload_n (pc := 6) (j := 1) C dX2_setRight_6 rfl rfl ?_
  obtain ⟨b2, eb2, hf⟩ := oB hf
  obtain ⟨rb2, _, kb2⟩ := aIs_eq eb2
  obtain ⟨x3, ex3, hf⟩ := oB hf
  refine v_call (pc := 7) (d_V (pc := 7) C (As := [.int a1]) (rest := []) rb2 kb2 nt_1 q2508 yi_X2_noPanel_FigureSurveyModel yk_X2_noPanel rfl (by decide) (by decide) (Nat.le_trans aw_0 (by decide)) rfl (mX2_noPanel C.st ex3) dX2_setRight_7) ?_
  refine v_if_eq (pc := 10) (tgt := 27) C dX2_setRight_10 rfl (fun hc => ?_) (fun hc => ?_)
  · rw [if_pos hc] at hf
    refine v_iload_n (pc := 27) (j := 2) C dX2_setRight_27 rfl rfl ?_
    refine v_iconst (pc := 28) (v := (0 : Int32)) C dX2_setRight_28 rfl ?_
    refine v_iconst (pc := 29) (v := (3 : Int32)) C dX2_setRight_29 rfl ?_
    obtain ⟨x6, ex6, hf⟩ := oB hf
    refine v_call (pc := 30) (d_S (pc := 30) C (As := [.int a2, .int (0 : Int32), .int (3 : Int32)]) (rest := []) q2495 q2496 yk_X2_in rfl (by decide) (by decide) (Nat.le_trans aw_0 (by decide)) rfl (mX2_in C.st ex6) dX2_setRight_30) ?_
    refine v_if_ne (pc := 33) (tgt := 50) C dX2_setRight_33 rfl (fun hc => ?_) (fun hc => ?_)
    · rw [if_neg hc] at hf
      refine v_aload_n (pc := 50) (j := 0) C dX2_setRight_50 rfl rfl ?_
      obtain ⟨x8, ex8, hf⟩ := oB hf
      refine v_getF (pc := 51) C lk_X2_16 (gR_eq ex8) dX2_setRight_51 ?_
      refine v_iload_n (pc := 54) (j := 1) C dX2_setRight_54 rfl rfl ?_
      obtain ⟨b9, eb9, hf⟩ := oB hf
      obtain ⟨rb9, _, kb9⟩ := aIs_eq eb9
      obtain ⟨x10, ex10, hf⟩ := oB hf
      refine v_call (pc := 55) (d_V (pc := 55) C (As := [.int a1]) (rest := []) rb9 kb9 nt_15 q2520 yi_J2_get_java_util_ArrayList yk_J2_get rfl (by decide) (by decide) (Nat.le_trans aw_0 (by decide)) rfl (mJ2_get C.st ex10) dX2_setRight_55) ?_
      obtain ⟨_, e12, hf⟩ := oB hf
      refine v_cast (pc := 58) C q2521 ct__I e12 dX2_setRight_58 ?_
      refine v_astore (pc := 61) (lv' := [(4, false, va_rf x10), (0, false, va_rf a0), (1, false, .int a1), (2, false, .int a2), (3, false, .int a3)]) C dX2_setRight_61 (by decide) rfl ?_
      refine v_aload (pc := 63) (j := 0) C dX2_setRight_63 rfl ?_
      refine v_bipush (pc := 65) (v := (9 : Int32)) C dX2_setRight_65 rfl ?_
      obtain ⟨x13, ex13, hf⟩ := oB hf
      refine v_iaload (pc := 67) C ex13 dX2_setRight_67 ?_
      refine v_iload_n (pc := 68) (j := 3) C dX2_setRight_68 rfl rfl ?_
      refine v_ishr (pc := 69) C dX2_setRight_69 ?_
      refine v_iconst (pc := 70) (v := (1 : Int32)) C dX2_setRight_70 rfl ?_
      refine v_iand (pc := 71) C dX2_setRight_71 ?_
      refine v_iconst (pc := 72) (v := (1 : Int32)) C dX2_setRight_72 rfl ?_
      refine v_icmp_ne (pc := 73) (tgt := 80) C dX2_setRight_73 rfl (fun hc => ?_) (fun hc => ?_)
      · simp only [if_neg hc] at hf
        refine v_iconst (pc := 80) (v := (0 : Int32)) C dX2_setRight_80 rfl ?_
        exact V.sub [3, 4, 0] rfl (vX2_setRight_p81 X hf)
      · simp only [if_pos (Decidable.of_not_not hc)] at hf
        refine v_iconst (pc := 76) (v := (1 : Int32)) C dX2_setRight_76 rfl ?_
        refine v_goto (pc := 77) (tgt := 81) C dX2_setRight_77 rfl ?_
        exact V.sub [3, 4, 0] rfl (vX2_setRight_p81 X hf)
    · rw [if_pos (Decidable.of_not_not hc)] at hf
      refine v_aload_n (pc := 36) (j := 0) C dX2_setRight_36 rfl rfl ?_
      refine v_iconst (pc := 37) (v := (2 : Int32)) C dX2_setRight_37 rfl ?_
      obtain ⟨b14, eb14, hf⟩ := oB hf
      obtain ⟨rb14, _, kb14⟩ := aIs_eq eb14
      obtain ⟨x15, h16, ex15, hf⟩ := bnd2_eq hf
      refine v_call (pc := 38) (d_V (pc := 38) C (As := [.int (2 : Int32)]) (rest := []) rb14 kb14 nt_1 q2498 yi_X2_err_FigureSurveyModel yk_X2_err rfl (by decide) (by decide) (Nat.le_trans aw_0 (by decide)) rfl (mX2_err C.st ex15) dX2_setRight_38) ?_
      refine v_if_le (pc := 41) (tgt := 48) C dX2_setRight_41 rfl (fun hc => ?_) (fun hc => ?_)
      · rw [if_pos hc] at hf
        refine v_iconst (pc := 48) (v := (0 : Int32)) C dX2_setRight_48 rfl ?_
        cases hf
        exact v_zreturn (pc := 49) C X.2.1 X.2.2.1 X.2.2.2.1 (by decide) rfl dX2_setRight_49
      · rw [if_neg hc] at hf
        refine v_iconst (pc := 44) (v := (1 : Int32)) C dX2_setRight_44 rfl ?_
        refine v_goto (pc := 45) (tgt := 49) C dX2_setRight_45 rfl ?_
        cases hf
        exact v_zreturn (pc := 49) C X.2.1 X.2.2.1 X.2.2.2.1 (by decide) rfl dX2_setRight_49
  · rw [if_neg hc] at hf
    refine v_aload_n (pc := 13) (j := 0) C dX2_setRight_13 rfl rfl ?_
    refine v_iconst (pc := 14) (v := (1 : Int32)) C dX2_setRight_14 rfl ?_
    obtain ⟨b17, eb17, hf⟩ := oB hf
    obtain ⟨rb17, _, kb17⟩ := aIs_eq eb17
    obtain ⟨x18, h19, ex18, hf⟩ := bnd2_eq hf
    refine v_call (pc := 15) (d_V (pc := 15) C (As := [.int (1 : Int32)]) (rest := []) rb17 kb17 nt_1 q2498 yi_X2_err_FigureSurveyModel yk_X2_err rfl (by decide) (by decide) (Nat.le_trans aw_0 (by decide)) rfl (mX2_err C.st ex18) dX2_setRight_15) ?_
    refine v_if_le (pc := 18) (tgt := 25) C dX2_setRight_18 rfl (fun hc => ?_) (fun hc => ?_)
    · rw [if_pos hc] at hf
      refine v_iconst (pc := 25) (v := (0 : Int32)) C dX2_setRight_25 rfl ?_
      cases hf
      exact v_zreturn (pc := 26) C X.2.1 X.2.2.1 X.2.2.2.1 (by decide) rfl dX2_setRight_26
    · rw [if_neg hc] at hf
      refine v_iconst (pc := 21) (v := (1 : Int32)) C dX2_setRight_21 rfl ?_
      refine v_goto (pc := 22) (tgt := 26) C dX2_setRight_22 rfl ?_
      cases hf
      exact v_zreturn (pc := 26) C X.2.1 X.2.2.1 X.2.2.2.1 (by decide) rfl dX2_setRight_26
theorem mX2_setRight {l : Launch} {D : aD} {h : aH} {a0 : Option Nat} {a1 : Int32} {a2 : Int32} {a3 : Int32} {q : Int32} {g : aH} (hst : l.stackTraces = false) (hf : fX2_setRight D h a0 a1 a2 a3 = some (q, g)) : aM l D yX2_setRight cX2_setRight 6 (some .boolean) 3 64 [va_rf a0, .int a1, .int a2, .int a3] h (.inr (some (.int q)), g) :=
  aM.ofX [(false, va_rf a0), (false, .int a1), (false, .int a2), (false, .int a3)] rfl (ap_r (ap_c rfl (ap_c rfl (ap_c rfl ap_0)))) (by decide +kernel) hst (al_of (aw_r (aw_i (aw_i (aw_i aw_0)))) (by decide)) fun p e s m args below meth c X => V.sub (lv' := [(0, false, va_rf a0), (1, false, .int a1), (2, false, .int a2), (3, false, .int a3)]) [0, 1, 2, 3] rfl (vX2_setRight X hf)
def fX2_repaint_p79 (D : aD) (h : aH) (a0 : Option Nat) : Option (Int32 × aH) :=
  (aIs h 1 a0).bind fun _ =>
  bnd2 (fX2_err D h a0 (3 : Int32)) fun x2 h3 =>
  some (x2, h3)
theorem vX2_repaint_p79 {h : aH} {a0 : Option Nat} {q : Int32} {g : aH} (X : aX p l R s m meth c D n0 s0 yX2_repaint cX2_repaint 7 164 7 (some .int) h0) (hf : fX2_repaint_p79 D h a0 = some (q, g)) : V p l e R s m args below meth c D n0 s0 (aEnd D below args s h0 (.inr (some (.int q)), g)) h 79 [(0, false, va_rf a0)] [] := by
  have C := X.1
  unfold fX2_repaint_p79 at hf
  refine v_aload_n (pc := 79) (j := 0) C dX2_repaint_79 rfl rfl ?_
  refine v_iconst (pc := 80) (v := (3 : Int32)) C dX2_repaint_80 rfl ?_
  obtain ⟨b1, eb1, hf⟩ := oB hf
  obtain ⟨rb1, _, kb1⟩ := aIs_eq eb1
  obtain ⟨x2, h3, ex2, hf⟩ := bnd2_eq hf
  refine v_call (pc := 81) (d_V (pc := 81) C (As := [.int (3 : Int32)]) (rest := []) rb1 kb1 nt_1 q2498 yi_X2_err_FigureSurveyModel yk_X2_err rfl (by decide) (by decide) (Nat.le_trans aw_0 (by decide)) rfl (mX2_err C.st ex2) dX2_repaint_81) ?_
  cases hf
  exact v_ireturn (pc := 84) C X.2.1 X.2.2.1 X.2.2.2.1 rfl dX2_repaint_84
def fX2_repaint_p134 (D : aD) (K91 : aH → (Option Nat) → Int32 → Int32 → Int64 → Int32 → Option (Int32 × aH)) (h : aH) (a0 : Option Nat) (a1 : Int32) (a3 : Int32) (a4 : Int64) (a6 : Int32) : Option (Int32 × aH) :=
  K91 h a0 a1 a3 a4 (a6 + 1)
theorem vX2_repaint_p134 {h : aH} {K91 : aH → (Option Nat) → Int32 → Int32 → Int64 → Int32 → Option (Int32 × aH)} {a0 : Option Nat} {a1 : Int32} {a3 : Int32} {a4 : Int64} {a6 : Int32} {q : Int32} {g : aH} (X : aX p l R s m meth c D n0 s0 yX2_repaint cX2_repaint 7 164 7 (some .int) h0) (k91 : ∀ (h : aH) (a0 : Option Nat) (a1 : Int32) (a3 : Int32) (a4 : Int64) (a6 : Int32) (q : Int32) (g : aH), K91 h a0 a1 a3 a4 a6 = some (q, g) → V p l e R s m args below meth c D n0 s0 (aEnd D below args s h0 (.inr (some (.int q)), g)) h 91 [(0, false, va_rf a0), (1, false, .int a1), (3, false, .int a3), (4, true, .long a4), (6, false, .int a6)] []) (hf : fX2_repaint_p134 D K91 h a0 a1 a3 a4 a6 = some (q, g)) : V p l e R s m args below meth c D n0 s0 (aEnd D below args s h0 (.inr (some (.int q)), g)) h 134 [(0, false, va_rf a0), (1, false, .int a1), (3, false, .int a3), (4, true, .long a4), (6, false, .int a6)] [] := by
  have C := X.1
  unfold fX2_repaint_p134 at hf
  refine v_iinc (pc := 134) (j := 4) (v := (a6 + 1)) (lv' := [(6, false, .int (a6 + 1)), (0, false, va_rf a0), (1, false, .int a1), (3, false, .int a3), (4, true, .long a4)]) C dX2_repaint_134 rfl rfl (by decide) rfl ?_
  refine v_goto (pc := 137) (tgt := 91) C dX2_repaint_137 rfl ?_
  exact V.sub [1, 2, 3, 4, 0] rfl (k91 _ _ _ _ _ _ _ _ hf)
def fX2_repaint_p140 (D : aD) (h : aH) (a0 : Option Nat) (a3 : Int32) (a4 : Int64) : Option (Int32 × aH) :=
  (gR h 1 6 a0).bind fun x1 =>
  (eL h x1 a3).bind fun x2 =>
  (sF D h 101 x1 a3 (.long (x2 &&& (a4 ^^^ (-1 : Int64))))).bind fun h3 =>
  (fJ21_bitCount D h3 a4).bind fun x5 =>
  some (x5, h3)
theorem vX2_repaint_p140 {h : aH} {a0 : Option Nat} {a3 : Int32} {a4 : Int64} {q : Int32} {g : aH} (X : aX p l R s m meth c D n0 s0 yX2_repaint cX2_repaint 7 164 7 (some .int) h0) (hf : fX2_repaint_p140 D h a0 a3 a4 = some (q, g)) : V p l e R s m args below meth c D n0 s0 (aEnd D below args s h0 (.inr (some (.int q)), g)) h 140 [(0, false, va_rf a0), (3, false, .int a3), (4, true, .long a4)] [] := by
  have C := X.1
  unfold fX2_repaint_p140 at hf
  refine v_aload_n (pc := 140) (j := 0) C dX2_repaint_140 rfl rfl ?_
  obtain ⟨x1, ex1, hf⟩ := oB hf
  refine v_getF (pc := 141) C lk_X2_23 (gR_eq ex1) dX2_repaint_141 ?_
  refine v_iload_n (pc := 144) (j := 1) C dX2_repaint_144 rfl rfl ?_
  refine v_dup2_11 (pc := 145) C dX2_repaint_145 rfl (va_rfc _) ?_
  obtain ⟨x2, ex2, hf⟩ := oB hf
  refine v_laload (pc := 146) C ex2 dX2_repaint_146 ?_
  refine v_lload (pc := 147) (j := 2) C dX2_repaint_147 rfl ?_
  refine v_ldc2 (pc := 149) (v := (-1 : Int64)) C q2576 dX2_repaint_149 ?_
  refine v_lxor (pc := 152) C dX2_repaint_152 ?_
  refine v_land (pc := 153) C dX2_repaint_153 ?_
  obtain ⟨h3, eh3, hf⟩ := oB hf
  refine v_lastore (pc := 154) C eh3 dX2_repaint_154 ?_
  refine v_lload (pc := 155) (j := 2) C dX2_repaint_155 rfl ?_
  obtain ⟨x5, ex5, hf⟩ := oB hf
  refine v_call (pc := 157) (d_S (pc := 157) C (As := [.long a4]) (rest := []) q2581 q558 yk_J21_bitCount rfl (by decide) (by decide) (Nat.le_trans aw_0 (by decide)) rfl (mJ21_bitCount C.st ex5) dX2_repaint_157) ?_
  cases hf
  exact v_ireturn (pc := 160) C X.2.1 X.2.2.1 X.2.2.2.1 rfl dX2_repaint_160
def fX2_repaint_p91 (D : aD) : Nat → aH → (Option Nat) → Int32 → Int32 → Int64 → Int32 → Option (Int32 × aH)
  | 0, _, _, _, _, _, _ => none
  | n + 1, h, a0, a1, a3, a4, a6 =>
  (gR h 1 7 a0).bind fun x1 =>
  (aIs h 15 x1).bind fun _ =>
  (fJ2_size D h x1).bind fun x3 =>
  if x3 ≤ a6 then
  (fX2_repaint_p140 D h a0 a3 a4)
  else
  ((gR h 1 10 a0).bind fun x5 =>
  (eR h x5 a1).bind fun x6 =>
  (eZ h x6 a6).bind fun x7 =>
  if x7 = 0 then
  (fX2_repaint_p134 D (fX2_repaint_p91 D n) h a0 a1 a3 a4 a6)
  else
  ((gR h 1 8 a0).bind fun x8 =>
  (eL h x8 a6).bind fun x9 =>
  (gR h 1 6 a0).bind fun x10 =>
  (eL h x10 a3).bind fun x11 =>
  (some ((a4 ||| (x9 &&& x11)))).bind fun x12 =>
  fX2_repaint_p134 D (fX2_repaint_p91 D n) h a0 a1 a3 x12 a6))
theorem vX2_repaint_p91 (X : aX p l R s m meth c D n0 s0 yX2_repaint cX2_repaint 7 164 7 (some .int) h0) : ∀ (n : Nat) (h : aH) (a0 : Option Nat) (a1 : Int32) (a3 : Int32) (a4 : Int64) (a6 : Int32) (q : Int32) (g : aH), fX2_repaint_p91 D n h a0 a1 a3 a4 a6 = some (q, g) → V p l e R s m args below meth c D n0 s0 (aEnd D below args s h0 (.inr (some (.int q)), g)) h 91 [(0, false, va_rf a0), (1, false, .int a1), (3, false, .int a3), (4, true, .long a4), (6, false, .int a6)] [] := by
  have C := X.1
  intro n
  induction n with
  | zero =>
    intro _ _ _ _ _ _ _ _ hf
    rw [fX2_repaint_p91] at hf
    cases hf
  | succ n ih =>
    intro h a0 a1 a3 a4 a6 q g hf
    rw [fX2_repaint_p91] at hf
    refine v_iload (pc := 91) (j := 4) C dX2_repaint_91 rfl ?_
    refine v_aload_n (pc := 93) (j := 0) C dX2_repaint_93 rfl rfl ?_
    obtain ⟨x1, ex1, hf⟩ := oB hf
    refine v_getF (pc := 94) C lk_X2_27 (gR_eq ex1) dX2_repaint_94 ?_
    obtain ⟨b2, eb2, hf⟩ := oB hf
    obtain ⟨rb2, _, kb2⟩ := aIs_eq eb2
    obtain ⟨x3, ex3, hf⟩ := oB hf
    refine v_call (pc := 97) (d_V (pc := 97) C (As := []) (rest := [.int a6]) rb2 kb2 nt_15 q2502 yi_J2_size_java_util_ArrayList yk_J2_size rfl (by decide) (by decide) (Nat.le_trans (aw_i aw_0) (by decide)) rfl (mJ2_size C.st ex3) dX2_repaint_97) ?_
    refine v_icmp_ge (pc := 100) (tgt := 140) C dX2_repaint_100 rfl (fun hc => ?_) (fun hc => ?_)
    · rw [if_pos hc] at hf
      exact V.sub [0, 2, 3] rfl (vX2_repaint_p140 X hf)
    · rw [if_neg hc] at hf
      refine v_aload_n (pc := 103) (j := 0) C dX2_repaint_103 rfl rfl ?_
      obtain ⟨x5, ex5, hf⟩ := oB hf
      refine v_getF (pc := 104) C lk_X2_38 (gR_eq ex5) dX2_repaint_104 ?_
      refine v_iload_n (pc := 107) (j := 1) C dX2_repaint_107 rfl rfl ?_
      obtain ⟨x6, ex6, hf⟩ := oB hf
      refine v_aaload (pc := 108) C ex6 dX2_repaint_108 ?_
      refine v_iload (pc := 109) (j := 4) C dX2_repaint_109 rfl ?_
      obtain ⟨x7, ex7, hf⟩ := oB hf
      refine v_baload (pc := 111) C ex7 dX2_repaint_111 ?_
      refine v_if_eq (pc := 112) (tgt := 134) C dX2_repaint_112 rfl (fun hc => ?_) (fun hc => ?_)
      · rw [if_pos hc] at hf
        exact V.sub [0, 1, 2, 3, 4] rfl (vX2_repaint_p134 X ih hf)
      · rw [if_neg hc] at hf
        refine v_lload (pc := 115) (j := 3) C dX2_repaint_115 rfl ?_
        refine v_aload_n (pc := 117) (j := 0) C dX2_repaint_117 rfl rfl ?_
        obtain ⟨x8, ex8, hf⟩ := oB hf
        refine v_getF (pc := 118) C lk_X2_30 (gR_eq ex8) dX2_repaint_118 ?_
        refine v_iload (pc := 121) (j := 4) C dX2_repaint_121 rfl ?_
        obtain ⟨x9, ex9, hf⟩ := oB hf
        refine v_laload (pc := 123) C ex9 dX2_repaint_123 ?_
        refine v_aload_n (pc := 124) (j := 0) C dX2_repaint_124 rfl rfl ?_
        obtain ⟨x10, ex10, hf⟩ := oB hf
        refine v_getF (pc := 125) C lk_X2_23 (gR_eq ex10) dX2_repaint_125 ?_
        refine v_iload_n (pc := 128) (j := 2) C dX2_repaint_128 rfl rfl ?_
        obtain ⟨x11, ex11, hf⟩ := oB hf
        refine v_laload (pc := 129) C ex11 dX2_repaint_129 ?_
        refine v_land (pc := 130) C dX2_repaint_130 ?_
        refine v_lor (pc := 131) C dX2_repaint_131 ?_
        obtain ⟨x12, ex12, hf⟩ := oB hf
        refine vst (Option.some.inj ex12) (fun z => .long z :: []) ?_
        refine v_lstore (pc := 132) (lv' := [(4, true, .long x12), (0, false, va_rf a0), (1, false, .int a1), (3, false, .int a3), (6, false, .int a6)]) C dX2_repaint_132 (by decide) rfl ?_
        exact V.sub [1, 2, 3, 0, 4] rfl (vX2_repaint_p134 X ih hf)
def fX2_repaint (D : aD) (h : aH) (a0 : Option Nat) (a1 : Int32) (a2 : Int32) : Option (Int32 × aH) :=
  (pF D h 1 0 a0 (.int (0 : Int32))).bind fun h1 =>
  (aIs h1 1 a0).bind fun _ =>
  (fX2_noFigure D h1 a0 a1).bind fun x3 =>
  if x3 = 0 then
  ((fX2_in D h1 a2 (0 : Int32) (3 : Int32)).bind fun x6 =>
  if x6 = 0 then
  ((aIs h1 1 a0).bind fun _ =>
  bnd2 (fX2_err D h1 a0 (2 : Int32)) fun x24 h25 =>
  some (x24, h25))
  else
  ((aIs h1 1 a0).bind fun _ =>
  (fX2_panelOf D h1 a0 a1).bind fun x9 =>
  (gR h1 1 4 a0).bind fun x11 =>
  (aIs h1 15 x11).bind fun _ =>
  (fJ2_get D h1 x11 x9).bind fun x13 =>
  (aCast h1 [100] x13).bind fun _ =>
  (eI h1 x13 (9 : Int32)).bind fun x16 =>
  if ((x16 >>> (a2 &&& 31)) &&& (1 : Int32)) = 0 then
  (fX2_repaint_p79 D h1 a0)
  else
  ((aIs h1 1 a0).bind fun _ =>
  (fX2_drowned D h1 a0 x9).bind fun x18 =>
  if x18 = 0 then
  ((aIs h1 1 a0).bind fun _ =>
  bnd2 (fX2_doubt D h1 a0 a1) fun x21 h22 =>
  if x21 < (10 : Int32) then
  (fX2_repaint_p91 D FU h22 a0 a1 x9 (0 : Int64) (0 : Int32))
  else
  (fX2_repaint_p79 D h22 a0))
  else
  (fX2_repaint_p79 D h1 a0))))
  else
  ((aIs h1 1 a0).bind fun _ =>
  bnd2 (fX2_err D h1 a0 (1 : Int32)) fun x27 h28 =>
  some (x27, h28))
theorem vX2_repaint {h : aH} {a0 : Option Nat} {a1 : Int32} {a2 : Int32} {q : Int32} {g : aH} (X : aX p l R s m meth c D n0 s0 yX2_repaint cX2_repaint 7 164 7 (some .int) h0) (hf : fX2_repaint D h a0 a1 a2 = some (q, g)) : V p l e R s m args below meth c D n0 s0 (aEnd D below args s h0 (.inr (some (.int q)), g)) h 0 [(0, false, va_rf a0), (1, false, .int a1), (2, false, .int a2)] [] := by
  have C := X.1
  unfold fX2_repaint at hf
  refine v_aload_n (pc := 0) (j := 0) C dX2_repaint_0 rfl rfl ?_
  refine v_iconst (pc := 1) (v := (0 : Int32)) C dX2_repaint_1 rfl ?_
  obtain ⟨h1, eh1, hf⟩ := oB hf
  refine v_putF (pc := 2) C lk_X2_69 tyX2 tyX2_ok nmX2 (tyX2_ok 0 (by decide)) rfl rfl eh1 dX2_repaint_2 ?_
  refine v_aload_n (pc := 5) (j := 0) C dX2_repaint_5 rfl rfl ?_
  refine v_iload_n (pc := 6) (j := 1) C dX2_repaint_6 rfl rfl ?_
  obtain ⟨b2, eb2, hf⟩ := oB hf
  obtain ⟨rb2, _, kb2⟩ := aIs_eq eb2
  obtain ⟨x3, ex3, hf⟩ := oB hf
  refine v_call (pc := 7) (d_V (pc := 7) C (As := [.int a1]) (rest := []) rb2 kb2 nt_1 q2560 yi_X2_noFigure_FigureSurveyModel yk_X2_noFigure rfl (by decide) (by decide) (Nat.le_trans aw_0 (by decide)) rfl (mX2_noFigure C.st ex3) dX2_repaint_7) ?_
  refine v_if_eq (pc := 10) (tgt := 19) C dX2_repaint_10 rfl (fun hc => ?_) (fun hc => ?_)
  · rw [if_pos hc] at hf
    refine v_iload_n (pc := 19) (j := 2) C dX2_repaint_19 rfl rfl ?_
    refine v_iconst (pc := 20) (v := (0 : Int32)) C dX2_repaint_20 rfl ?_
    refine v_iconst (pc := 21) (v := (3 : Int32)) C dX2_repaint_21 rfl ?_
    obtain ⟨x6, ex6, hf⟩ := oB hf
    refine v_call (pc := 22) (d_S (pc := 22) C (As := [.int a2, .int (0 : Int32), .int (3 : Int32)]) (rest := []) q2495 q2496 yk_X2_in rfl (by decide) (by decide) (Nat.le_trans aw_0 (by decide)) rfl (mX2_in C.st ex6) dX2_repaint_22) ?_
    refine v_if_ne (pc := 25) (tgt := 34) C dX2_repaint_25 rfl (fun hc => ?_) (fun hc => ?_)
    · rw [if_neg hc] at hf
      refine v_aload_n (pc := 34) (j := 0) C dX2_repaint_34 rfl rfl ?_
      refine v_iload_n (pc := 35) (j := 1) C dX2_repaint_35 rfl rfl ?_
      obtain ⟨b8, eb8, hf⟩ := oB hf
      obtain ⟨rb8, _, kb8⟩ := aIs_eq eb8
      obtain ⟨x9, ex9, hf⟩ := oB hf
      refine v_call (pc := 36) (d_V (pc := 36) C (As := [.int a1]) (rest := []) rb8 kb8 nt_1 q2552 yi_X2_panelOf_FigureSurveyModel yk_X2_panelOf rfl (by decide) (by decide) (Nat.le_trans aw_0 (by decide)) rfl (mX2_panelOf C.st ex9) dX2_repaint_36) ?_
      refine v_istore_n (pc := 39) (lv' := [(3, false, .int x9), (0, false, va_rf a0), (1, false, .int a1), (2, false, .int a2)]) C dX2_repaint_39 rfl (by decide) rfl ?_
      refine v_aload_n (pc := 40) (j := 1) C dX2_repaint_40 rfl rfl ?_
      obtain ⟨x11, ex11, hf⟩ := oB hf
      refine v_getF (pc := 41) C lk_X2_16 (gR_eq ex11) dX2_repaint_41 ?_
      refine v_iload_n (pc := 44) (j := 0) C dX2_repaint_44 rfl rfl ?_
      obtain ⟨b12, eb12, hf⟩ := oB hf
      obtain ⟨rb12, _, kb12⟩ := aIs_eq eb12
      obtain ⟨x13, ex13, hf⟩ := oB hf
      refine v_call (pc := 45) (d_V (pc := 45) C (As := [.int x9]) (rest := []) rb12 kb12 nt_15 q2520 yi_J2_get_java_util_ArrayList yk_J2_get rfl (by decide) (by decide) (Nat.le_trans aw_0 (by decide)) rfl (mJ2_get C.st ex13) dX2_repaint_45) ?_
      obtain ⟨_, e15, hf⟩ := oB hf
      refine v_cast (pc := 48) C q2521 ct__I e15 dX2_repaint_48 ?_
      refine v_bipush (pc := 51) (v := (9 : Int32)) C dX2_repaint_51 rfl ?_
      obtain ⟨x16, ex16, hf⟩ := oB hf
      refine v_iaload (pc := 53) C ex16 dX2_repaint_53 ?_
      refine v_iload_n (pc := 54) (j := 3) C dX2_repaint_54 rfl rfl ?_
      refine v_ishr (pc := 55) C dX2_repaint_55 ?_
      refine v_iconst (pc := 56) (v := (1 : Int32)) C dX2_repaint_56 rfl ?_
      refine v_iand (pc := 57) C dX2_repaint_57 ?_
      refine v_if_eq (pc := 58) (tgt := 79) C dX2_repaint_58 rfl (fun hc => ?_) (fun hc => ?_)
      · rw [if_pos hc] at hf
        exact V.sub [1] rfl (vX2_repaint_p79 X hf)
      · rw [if_neg hc] at hf
        refine v_aload_n (pc := 61) (j := 1) C dX2_repaint_61 rfl rfl ?_
        refine v_iload_n (pc := 62) (j := 0) C dX2_repaint_62 rfl rfl ?_
        obtain ⟨b17, eb17, hf⟩ := oB hf
        obtain ⟨rb17, _, kb17⟩ := aIs_eq eb17
        obtain ⟨x18, ex18, hf⟩ := oB hf
        refine v_call (pc := 63) (d_V (pc := 63) C (As := [.int x9]) (rest := []) rb17 kb17 nt_1 q2512 yi_X2_drowned_FigureSurveyModel yk_X2_drowned rfl (by decide) (by decide) (Nat.le_trans aw_0 (by decide)) rfl (mX2_drowned C.st ex18) dX2_repaint_63) ?_
        refine v_if_ne (pc := 66) (tgt := 79) C dX2_repaint_66 rfl (fun hc => ?_) (fun hc => ?_)
        · rw [if_neg hc] at hf
          exact V.sub [1] rfl (vX2_repaint_p79 X hf)
        · rw [if_pos (Decidable.of_not_not hc)] at hf
          refine v_aload_n (pc := 69) (j := 1) C dX2_repaint_69 rfl rfl ?_
          refine v_iload_n (pc := 70) (j := 2) C dX2_repaint_70 rfl rfl ?_
          obtain ⟨b20, eb20, hf⟩ := oB hf
          obtain ⟨rb20, _, kb20⟩ := aIs_eq eb20
          obtain ⟨x21, h22, ex21, hf⟩ := bnd2_eq hf
          refine v_call (pc := 71) (d_V (pc := 71) C (As := [.int a1]) (rest := []) rb20 kb20 nt_1 q2633 yi_X2_doubt_FigureSurveyModel yk_X2_doubt rfl (by decide) (by decide) (Nat.le_trans aw_0 (by decide)) rfl (mX2_doubt C.st ex21) dX2_repaint_71) ?_
          refine v_bipush (pc := 74) (v := (10 : Int32)) C dX2_repaint_74 rfl ?_
          refine v_icmp_lt (pc := 76) (tgt := 85) C dX2_repaint_76 rfl (fun hc => ?_) (fun hc => ?_)
          · rw [if_pos hc] at hf
            refine v_lconst (pc := 85) (v := (0 : Int64)) C dX2_repaint_85 rfl ?_
            refine v_lstore (pc := 86) (lv' := [(4, true, .long (0 : Int64)), (3, false, .int x9), (0, false, va_rf a0), (1, false, .int a1), (2, false, .int a2)]) C dX2_repaint_86 (by decide) rfl ?_
            refine v_iconst (pc := 88) (v := (0 : Int32)) C dX2_repaint_88 rfl ?_
            refine v_istore (pc := 89) (lv' := [(6, false, .int (0 : Int32)), (4, true, .long (0 : Int64)), (3, false, .int x9), (0, false, va_rf a0), (1, false, .int a1), (2, false, .int a2)]) C dX2_repaint_89 (by decide) rfl ?_
            exact V.sub [3, 4, 2, 1, 0] rfl (vX2_repaint_p91 X _ _ _ _ _ _ _ _ _ hf)
          · rw [if_neg hc] at hf
            exact V.sub [1] rfl (vX2_repaint_p79 X hf)
    · rw [if_pos (Decidable.of_not_not hc)] at hf
      refine v_aload_n (pc := 28) (j := 0) C dX2_repaint_28 rfl rfl ?_
      refine v_iconst (pc := 29) (v := (2 : Int32)) C dX2_repaint_29 rfl ?_
      obtain ⟨b23, eb23, hf⟩ := oB hf
      obtain ⟨rb23, _, kb23⟩ := aIs_eq eb23
      obtain ⟨x24, h25, ex24, hf⟩ := bnd2_eq hf
      refine v_call (pc := 30) (d_V (pc := 30) C (As := [.int (2 : Int32)]) (rest := []) rb23 kb23 nt_1 q2498 yi_X2_err_FigureSurveyModel yk_X2_err rfl (by decide) (by decide) (Nat.le_trans aw_0 (by decide)) rfl (mX2_err C.st ex24) dX2_repaint_30) ?_
      cases hf
      exact v_ireturn (pc := 33) C X.2.1 X.2.2.1 X.2.2.2.1 rfl dX2_repaint_33
  · rw [if_neg hc] at hf
    refine v_aload_n (pc := 13) (j := 0) C dX2_repaint_13 rfl rfl ?_
    refine v_iconst (pc := 14) (v := (1 : Int32)) C dX2_repaint_14 rfl ?_
    obtain ⟨b26, eb26, hf⟩ := oB hf
    obtain ⟨rb26, _, kb26⟩ := aIs_eq eb26
    obtain ⟨x27, h28, ex27, hf⟩ := bnd2_eq hf
    refine v_call (pc := 15) (d_V (pc := 15) C (As := [.int (1 : Int32)]) (rest := []) rb26 kb26 nt_1 q2498 yi_X2_err_FigureSurveyModel yk_X2_err rfl (by decide) (by decide) (Nat.le_trans aw_0 (by decide)) rfl (mX2_err C.st ex27) dX2_repaint_15) ?_
    cases hf
    exact v_ireturn (pc := 18) C X.2.1 X.2.2.1 X.2.2.2.1 rfl dX2_repaint_18
theorem mX2_repaint {l : Launch} {D : aD} {h : aH} {a0 : Option Nat} {a1 : Int32} {a2 : Int32} {q : Int32} {g : aH} (hst : l.stackTraces = false) (hf : fX2_repaint D h a0 a1 a2 = some (q, g)) : aM l D yX2_repaint cX2_repaint 7 (some .int) 7 164 [va_rf a0, .int a1, .int a2] h (.inr (some (.int q)), g) :=
  aM.ofX [(false, va_rf a0), (false, .int a1), (false, .int a2)] rfl (ap_r (ap_c rfl (ap_c rfl ap_0))) (by decide +kernel) hst (al_of (aw_r (aw_i (aw_i aw_0))) (by decide)) fun p e s m args below meth c X => V.sub (lv' := [(0, false, va_rf a0), (1, false, .int a1), (2, false, .int a2)]) [0, 1, 2] rfl (vX2_repaint X hf)
def fX2_decay (D : aD) (h : aH) (a0 : Option Nat) (a1 : Int32) : Option (Int32) :=
  (gR h 1 4 a0).bind fun x1 =>
  (aIs h 15 x1).bind fun _ =>
  (fJ2_get D h x1 a1).bind fun x3 =>
  (aCast h [100] x3).bind fun _ =>
  (eI h x3 (2 : Int32)).bind fun x6 =>
  (eI h x3 (3 : Int32)).bind fun x7 =>
  (eI h x3 (4 : Int32)).bind fun x8 =>
  (eI h x3 (5 : Int32)).bind fun x9 =>
  (fJ11_max D h (0 : Int32) (((((3 : Int32) * x6) + ((2 : Int32) * x7)) + x8) - x9)).bind fun x11 =>
  some x11
theorem vX2_decay {h : aH} {a0 : Option Nat} {a1 : Int32} {q : Int32} (X : aX p l R s m meth c D n0 s0 yX2_decay cX2_decay 3 64 3 (some .int) h0) (hf : fX2_decay D h a0 a1 = some q) : V p l e R s m args below meth c D n0 s0 (aEnd D below args s h0 (.inr (some (.int q)), h)) h 0 [(0, false, va_rf a0), (1, false, .int a1)] [] := by
  have C := X.1
  unfold fX2_decay at hf
  refine v_aload_n (pc := 0) (j := 0) C dX2_decay_0 rfl rfl ?_
  obtain ⟨x1, ex1, hf⟩ := oB hf
  refine v_getF (pc := 1) C lk_X2_16 (gR_eq ex1) dX2_decay_1 ?_
  refine v_iload_n (pc := 4) (j := 1) C dX2_decay_4 rfl rfl ?_
  obtain ⟨b2, eb2, hf⟩ := oB hf
  obtain ⟨rb2, _, kb2⟩ := aIs_eq eb2
  obtain ⟨x3, ex3, hf⟩ := oB hf
  refine v_call (pc := 5) (d_V (pc := 5) C (As := [.int a1]) (rest := []) rb2 kb2 nt_15 q2520 yi_J2_get_java_util_ArrayList yk_J2_get rfl (by decide) (by decide) (Nat.le_trans aw_0 (by decide)) rfl (mJ2_get C.st ex3) dX2_decay_5) ?_
  obtain ⟨_, e5, hf⟩ := oB hf
  refine v_cast (pc := 8) C q2521 ct__I e5 dX2_decay_8 ?_
  refine v_astore_n (pc := 11) (lv' := [(2, false, va_rf x3), (0, false, va_rf a0), (1, false, .int a1)]) C dX2_decay_11 rfl (by decide) rfl ?_
  refine v_iconst (pc := 12) (v := (0 : Int32)) C dX2_decay_12 rfl ?_
  refine v_iconst (pc := 13) (v := (3 : Int32)) C dX2_decay_13 rfl ?_
  refine v_aload_n (pc := 14) (j := 0) C dX2_decay_14 rfl rfl ?_
  refine v_iconst (pc := 15) (v := (2 : Int32)) C dX2_decay_15 rfl ?_
  obtain ⟨x6, ex6, hf⟩ := oB hf
  refine v_iaload (pc := 16) C ex6 dX2_decay_16 ?_
  refine v_imul (pc := 17) C dX2_decay_17 ?_
  refine v_iconst (pc := 18) (v := (2 : Int32)) C dX2_decay_18 rfl ?_
  refine v_aload_n (pc := 19) (j := 0) C dX2_decay_19 rfl rfl ?_
  refine v_iconst (pc := 20) (v := (3 : Int32)) C dX2_decay_20 rfl ?_
  obtain ⟨x7, ex7, hf⟩ := oB hf
  refine v_iaload (pc := 21) C ex7 dX2_decay_21 ?_
  refine v_imul (pc := 22) C dX2_decay_22 ?_
  refine v_iadd (pc := 23) C dX2_decay_23 ?_
  refine v_aload_n (pc := 24) (j := 0) C dX2_decay_24 rfl rfl ?_
  refine v_iconst (pc := 25) (v := (4 : Int32)) C dX2_decay_25 rfl ?_
  obtain ⟨x8, ex8, hf⟩ := oB hf
  refine v_iaload (pc := 26) C ex8 dX2_decay_26 ?_
  refine v_iadd (pc := 27) C dX2_decay_27 ?_
  refine v_aload_n (pc := 28) (j := 0) C dX2_decay_28 rfl rfl ?_
  refine v_iconst (pc := 29) (v := (5 : Int32)) C dX2_decay_29 rfl ?_
  obtain ⟨x9, ex9, hf⟩ := oB hf
  refine v_iaload (pc := 30) C ex9 dX2_decay_30 ?_
  refine v_isub (pc := 31) C dX2_decay_31 ?_
  obtain ⟨x11, ex11, hf⟩ := oB hf
  refine v_call (pc := 32) (d_S (pc := 32) C (As := [.int (0 : Int32), .int (((((3 : Int32) * x6) + ((2 : Int32) * x7)) + x8) - x9)]) (rest := []) q2827 q424 yk_J11_max rfl (by decide) (by decide) (Nat.le_trans aw_0 (by decide)) rfl (mJ11_max C.st ex11) dX2_decay_32) ?_
  cases hf
  exact v_ireturn (pc := 35) C X.2.1 X.2.2.1 X.2.2.2.1 rfl dX2_decay_35
theorem mX2_decay {l : Launch} {D : aD} {h : aH} {a0 : Option Nat} {a1 : Int32} {q : Int32} (hst : l.stackTraces = false) (hf : fX2_decay D h a0 a1 = some q) : aM l D yX2_decay cX2_decay 3 (some .int) 3 64 [va_rf a0, .int a1] h (.inr (some (.int q)), h) :=
  aM.ofX [(false, va_rf a0), (false, .int a1)] rfl (ap_r (ap_c rfl ap_0)) (by decide +kernel) hst (al_of (aw_r (aw_i aw_0)) (by decide)) fun p e s m args below meth c X => V.sub (lv' := [(0, false, va_rf a0), (1, false, .int a1)]) [0, 1] rfl (vX2_decay X hf)
def fX2_passYears_p128 (D : aD) (K41 : aH → (Option Nat) → Int32 → Int32 → Option (Int32 × aH)) (h : aH) (a0 : Option Nat) (a1 : Int32) (a2 : Int32) : Option (Int32 × aH) :=
  K41 h a0 a1 (a2 + 1)
theorem vX2_passYears_p128 {h : aH} {K41 : aH → (Option Nat) → Int32 → Int32 → Option (Int32 × aH)} {a0 : Option Nat} {a1 : Int32} {a2 : Int32} {q : Int32} {g : aH} (X : aX p l R s m meth c D n0 s0 yX2_passYears cX2_passYears 4 86 4 (some .int) h0) (k41 : ∀ (h : aH) (a0 : Option Nat) (a1 : Int32) (a2 : Int32) (q : Int32) (g : aH), K41 h a0 a1 a2 = some (q, g) → V p l e R s m args below meth c D n0 s0 (aEnd D below args s h0 (.inr (some (.int q)), g)) h 41 [(0, false, va_rf a0), (1, false, .int a1), (2, false, .int a2)] []) (hf : fX2_passYears_p128 D K41 h a0 a1 a2 = some (q, g)) : V p l e R s m args below meth c D n0 s0 (aEnd D below args s h0 (.inr (some (.int q)), g)) h 128 [(0, false, va_rf a0), (1, false, .int a1), (2, false, .int a2)] [] := by
  have C := X.1
  unfold fX2_passYears_p128 at hf
  refine v_iinc (pc := 128) (j := 2) (v := (a2 + 1)) (lv' := [(2, false, .int (a2 + 1)), (0, false, va_rf a0), (1, false, .int a1)]) C dX2_passYears_128 rfl rfl (by decide) rfl ?_
  refine v_goto (pc := 131) (tgt := 41) C dX2_passYears_131 rfl ?_
  exact V.sub [1, 2, 0] rfl (k41 _ _ _ _ _ _ hf)
def fX2_passYears_p58 (D : aD) (K41 : aH → (Option Nat) → Int32 → Int32 → Option (Int32 × aH)) : Nat → aH → (Option Nat) → Int32 → Int32 → Int32 → Option (Int32 × aH)
  | 0, _, _, _, _, _ => none
  | n + 1, h, a0, a1, a2, a3 =>
  (gR h 1 4 a0).bind fun x1 =>
  (aIs h 15 x1).bind fun _ =>
  (fJ2_size D h x1).bind fun x3 =>
  if x3 ≤ a3 then
  (fX2_passYears_p128 D K41 h a0 a1 a2)
  else
  ((gR h 1 4 a0).bind fun x5 =>
  (aIs h 15 x5).bind fun _ =>
  (fJ2_get D h x5 a3).bind fun x7 =>
  (aCast h [100] x7).bind fun _ =>
  (gR h 1 4 a0).bind fun x10 =>
  (aIs h 15 x10).bind fun _ =>
  (fJ2_get D h x10 a3).bind fun x12 =>
  (aCast h [100] x12).bind fun _ =>
  (eI h x12 (6 : Int32)).bind fun x15 =>
  (aIs h 1 a0).bind fun _ =>
  (fX2_decay D h a0 a3).bind fun x17 =>
  (fJ11_max D h (0 : Int32) (x15 - x17)).bind fun x20 =>
  (sF D h 100 x7 (6 : Int32) (.int x20)).bind fun h22 =>
  (gR h22 1 4 a0).bind fun x23 =>
  (aIs h22 15 x23).bind fun _ =>
  (fJ2_get D h22 x23 a3).bind fun x25 =>
  (aCast h22 [100] x25).bind fun _ =>
  (sF D h22 100 x25 (8 : Int32) (.int (0 : Int32))).bind fun h28 =>
  fX2_passYears_p58 D K41 n h28 a0 a1 a2 (a3 + 1))
theorem vX2_passYears_p58 {K41 : aH → (Option Nat) → Int32 → Int32 → Option (Int32 × aH)} (X : aX p l R s m meth c D n0 s0 yX2_passYears cX2_passYears 4 86 4 (some .int) h0) (k41 : ∀ (h : aH) (a0 : Option Nat) (a1 : Int32) (a2 : Int32) (q : Int32) (g : aH), K41 h a0 a1 a2 = some (q, g) → V p l e R s m args below meth c D n0 s0 (aEnd D below args s h0 (.inr (some (.int q)), g)) h 41 [(0, false, va_rf a0), (1, false, .int a1), (2, false, .int a2)] []) : ∀ (n : Nat) (h : aH) (a0 : Option Nat) (a1 : Int32) (a2 : Int32) (a3 : Int32) (q : Int32) (g : aH), fX2_passYears_p58 D K41 n h a0 a1 a2 a3 = some (q, g) → V p l e R s m args below meth c D n0 s0 (aEnd D below args s h0 (.inr (some (.int q)), g)) h 58 [(0, false, va_rf a0), (1, false, .int a1), (2, false, .int a2), (3, false, .int a3)] [] := by
  have C := X.1
  intro n
  induction n with
  | zero =>
    intro _ _ _ _ _ _ _ hf
    rw [fX2_passYears_p58] at hf
    cases hf
  | succ n ih =>
    intro h a0 a1 a2 a3 q g hf
    rw [fX2_passYears_p58] at hf
    refine v_iload_n (pc := 58) (j := 3) C dX2_passYears_58 rfl rfl ?_
    refine v_aload_n (pc := 59) (j := 0) C dX2_passYears_59 rfl rfl ?_
    obtain ⟨x1, ex1, hf⟩ := oB hf
    refine v_getF (pc := 60) C lk_X2_16 (gR_eq ex1) dX2_passYears_60 ?_
    obtain ⟨b2, eb2, hf⟩ := oB hf
    obtain ⟨rb2, _, kb2⟩ := aIs_eq eb2
    obtain ⟨x3, ex3, hf⟩ := oB hf
    refine v_call (pc := 63) (d_V (pc := 63) C (As := []) (rest := [.int a3]) rb2 kb2 nt_15 q2502 yi_J2_size_java_util_ArrayList yk_J2_size rfl (by decide) (by decide) (Nat.le_trans (aw_i aw_0) (by decide)) rfl (mJ2_size C.st ex3) dX2_passYears_63) ?_
    refine v_icmp_ge (pc := 66) (tgt := 128) C dX2_passYears_66 rfl (fun hc => ?_) (fun hc => ?_)
    · rw [if_pos hc] at hf
      exact V.sub [0, 1, 2] rfl (vX2_passYears_p128 X k41 hf)
    · rw [if_neg hc] at hf
      refine v_aload_n (pc := 69) (j := 0) C dX2_passYears_69 rfl rfl ?_
      obtain ⟨x5, ex5, hf⟩ := oB hf
      refine v_getF (pc := 70) C lk_X2_16 (gR_eq ex5) dX2_passYears_70 ?_
      refine v_iload_n (pc := 73) (j := 3) C dX2_passYears_73 rfl rfl ?_
      obtain ⟨b6, eb6, hf⟩ := oB hf
      obtain ⟨rb6, _, kb6⟩ := aIs_eq eb6
      obtain ⟨x7, ex7, hf⟩ := oB hf
      refine v_call (pc := 74) (d_V (pc := 74) C (As := [.int a3]) (rest := []) rb6 kb6 nt_15 q2520 yi_J2_get_java_util_ArrayList yk_J2_get rfl (by decide) (by decide) (Nat.le_trans aw_0 (by decide)) rfl (mJ2_get C.st ex7) dX2_passYears_74) ?_
      obtain ⟨_, e9, hf⟩ := oB hf
      refine v_cast (pc := 77) C q2521 ct__I e9 dX2_passYears_77 ?_
      refine v_bipush (pc := 80) (v := (6 : Int32)) C dX2_passYears_80 rfl ?_
      refine v_iconst (pc := 82) (v := (0 : Int32)) C dX2_passYears_82 rfl ?_
      refine v_aload_n (pc := 83) (j := 0) C dX2_passYears_83 rfl rfl ?_
      obtain ⟨x10, ex10, hf⟩ := oB hf
      refine v_getF (pc := 84) C lk_X2_16 (gR_eq ex10) dX2_passYears_84 ?_
      refine v_iload_n (pc := 87) (j := 3) C dX2_passYears_87 rfl rfl ?_
      obtain ⟨b11, eb11, hf⟩ := oB hf
      obtain ⟨rb11, _, kb11⟩ := aIs_eq eb11
      obtain ⟨x12, ex12, hf⟩ := oB hf
      refine v_call (pc := 88) (d_V (pc := 88) C (As := [.int a3]) (rest := [.int (0 : Int32), .int (6 : Int32), va_rf x7]) rb11 kb11 nt_15 q2520 yi_J2_get_java_util_ArrayList yk_J2_get rfl (by decide) (by decide) (Nat.le_trans (aw_i (aw_i (aw_r aw_0))) (by decide)) rfl (mJ2_get C.st ex12) dX2_passYears_88) ?_
      obtain ⟨_, e14, hf⟩ := oB hf
      refine v_cast (pc := 91) C q2521 ct__I e14 dX2_passYears_91 ?_
      refine v_bipush (pc := 94) (v := (6 : Int32)) C dX2_passYears_94 rfl ?_
      obtain ⟨x15, ex15, hf⟩ := oB hf
      refine v_iaload (pc := 96) C ex15 dX2_passYears_96 ?_
      refine v_aload_n (pc := 97) (j := 0) C dX2_passYears_97 rfl rfl ?_
      refine v_iload_n (pc := 98) (j := 3) C dX2_passYears_98 rfl rfl ?_
      obtain ⟨b16, eb16, hf⟩ := oB hf
      obtain ⟨rb16, _, kb16⟩ := aIs_eq eb16
      obtain ⟨x17, ex17, hf⟩ := oB hf
      refine v_call (pc := 99) (d_V (pc := 99) C (As := [.int a3]) (rest := [.int x15, .int (0 : Int32), .int (6 : Int32), va_rf x7]) rb16 kb16 nt_1 q2850 yi_X2_decay_FigureSurveyModel yk_X2_decay rfl (by decide) (by decide) (Nat.le_trans (aw_i (aw_i (aw_i (aw_r aw_0)))) (by decide)) rfl (mX2_decay C.st ex17) dX2_passYears_99) ?_
      refine v_isub (pc := 102) C dX2_passYears_102 ?_
      obtain ⟨x20, ex20, hf⟩ := oB hf
      refine v_call (pc := 103) (d_S (pc := 103) C (As := [.int (0 : Int32), .int (x15 - x17)]) (rest := [.int (6 : Int32), va_rf x7]) q2827 q424 yk_J11_max rfl (by decide) (by decide) (Nat.le_trans (aw_i (aw_r aw_0)) (by decide)) rfl (mJ11_max C.st ex20) dX2_passYears_103) ?_
      obtain ⟨h22, eh22, hf⟩ := oB hf
      refine v_iastore (pc := 106) C eh22 dX2_passYears_106 ?_
      refine v_aload_n (pc := 107) (j := 0) C dX2_passYears_107 rfl rfl ?_
      obtain ⟨x23, ex23, hf⟩ := oB hf
      refine v_getF (pc := 108) C lk_X2_16 (gR_eq ex23) dX2_passYears_108 ?_
      refine v_iload_n (pc := 111) (j := 3) C dX2_passYears_111 rfl rfl ?_
      obtain ⟨b24, eb24, hf⟩ := oB hf
      obtain ⟨rb24, _, kb24⟩ := aIs_eq eb24
      obtain ⟨x25, ex25, hf⟩ := oB hf
      refine v_call (pc := 112) (d_V (pc := 112) C (As := [.int a3]) (rest := []) rb24 kb24 nt_15 q2520 yi_J2_get_java_util_ArrayList yk_J2_get rfl (by decide) (by decide) (Nat.le_trans aw_0 (by decide)) rfl (mJ2_get C.st ex25) dX2_passYears_112) ?_
      obtain ⟨_, e27, hf⟩ := oB hf
      refine v_cast (pc := 115) C q2521 ct__I e27 dX2_passYears_115 ?_
      refine v_bipush (pc := 118) (v := (8 : Int32)) C dX2_passYears_118 rfl ?_
      refine v_iconst (pc := 120) (v := (0 : Int32)) C dX2_passYears_120 rfl ?_
      obtain ⟨h28, eh28, hf⟩ := oB hf
      refine v_iastore (pc := 121) C eh28 dX2_passYears_121 ?_
      refine v_iinc (pc := 122) (j := 3) (v := (a3 + 1)) (lv' := [(3, false, .int (a3 + 1)), (0, false, va_rf a0), (1, false, .int a1), (2, false, .int a2)]) C dX2_passYears_122 rfl rfl (by decide) rfl ?_
      refine v_goto (pc := 125) (tgt := 58) C dX2_passYears_125 rfl ?_
      exact V.sub [1, 2, 3, 0] rfl (ih _ _ _ _ _ _ _ hf)
def fX2_passYears_p134 (D : aD) (h : aH) (a0 : Option Nat) : Option (Int32 × aH) :=
  (gI h 1 1 a0).bind fun x1 =>
  some (x1, h)
theorem vX2_passYears_p134 {h : aH} {a0 : Option Nat} {q : Int32} {g : aH} (X : aX p l R s m meth c D n0 s0 yX2_passYears cX2_passYears 4 86 4 (some .int) h0) (hf : fX2_passYears_p134 D h a0 = some (q, g)) : V p l e R s m args below meth c D n0 s0 (aEnd D below args s h0 (.inr (some (.int q)), g)) h 134 [(0, false, va_rf a0)] [] := by
  have C := X.1
  unfold fX2_passYears_p134 at hf
  refine v_aload_n (pc := 134) (j := 0) C dX2_passYears_134 rfl rfl ?_
  obtain ⟨x1, ex1, hf⟩ := oB hf
  refine v_getF (pc := 135) C lk_X2_89 (gI_eq ex1) dX2_passYears_135 ?_
  cases hf
  exact v_ireturn (pc := 138) C X.2.1 X.2.2.1 X.2.2.2.1 rfl dX2_passYears_138
def fX2_passYears_p41 (D : aD) : Nat → aH → (Option Nat) → Int32 → Int32 → Option (Int32 × aH)
  | 0, _, _, _, _ => none
  | n + 1, h, a0, a1, a2 =>
  if a1 ≤ a2 then
  (fX2_passYears_p134 D h a0)
  else
  ((gI h 1 1 a0).bind fun x1 =>
  (pF D h 1 1 a0 (.int (x1 + (1 : Int32)))).bind fun h2 =>
  fX2_passYears_p58 D (fX2_passYears_p41 D n) FU h2 a0 a1 a2 (0 : Int32))
theorem vX2_passYears_p41 (X : aX p l R s m meth c D n0 s0 yX2_passYears cX2_passYears 4 86 4 (some .int) h0) : ∀ (n : Nat) (h : aH) (a0 : Option Nat) (a1 : Int32) (a2 : Int32) (q : Int32) (g : aH), fX2_passYears_p41 D n h a0 a1 a2 = some (q, g) → V p l e R s m args below meth c D n0 s0 (aEnd D below args s h0 (.inr (some (.int q)), g)) h 41 [(0, false, va_rf a0), (1, false, .int a1), (2, false, .int a2)] [] := by
  have C := X.1
  intro n
  induction n with
  | zero =>
    intro _ _ _ _ _ _ hf
    rw [fX2_passYears_p41] at hf
    cases hf
  | succ n ih =>
    intro h a0 a1 a2 q g hf
    rw [fX2_passYears_p41] at hf
    refine v_iload_n (pc := 41) (j := 2) C dX2_passYears_41 rfl rfl ?_
    refine v_iload_n (pc := 42) (j := 1) C dX2_passYears_42 rfl rfl ?_
    refine v_icmp_ge (pc := 43) (tgt := 134) C dX2_passYears_43 rfl (fun hc => ?_) (fun hc => ?_)
    · rw [if_pos hc] at hf
      exact V.sub [0] rfl (vX2_passYears_p134 X hf)
    · rw [if_neg hc] at hf
      refine v_aload_n (pc := 46) (j := 0) C dX2_passYears_46 rfl rfl ?_
      refine v_dup (pc := 47) C dX2_passYears_47 (va_rfc _) ?_
      obtain ⟨x1, ex1, hf⟩ := oB hf
      refine v_getF (pc := 48) C lk_X2_89 (gI_eq ex1) dX2_passYears_48 ?_
      refine v_iconst (pc := 51) (v := (1 : Int32)) C dX2_passYears_51 rfl ?_
      refine v_iadd (pc := 52) C dX2_passYears_52 ?_
      obtain ⟨h2, eh2, hf⟩ := oB hf
      refine v_putF (pc := 53) C lk_X2_89 tyX2 tyX2_ok nmX2 (tyX2_ok 1 (by decide)) rfl rfl eh2 dX2_passYears_53 ?_
      refine v_iconst (pc := 56) (v := (0 : Int32)) C dX2_passYears_56 rfl ?_
      refine v_istore_n (pc := 57) (lv' := [(3, false, .int (0 : Int32)), (0, false, va_rf a0), (1, false, .int a1), (2, false, .int a2)]) C dX2_passYears_57 rfl (by decide) rfl ?_
      exact V.sub [1, 2, 3, 0] rfl (vX2_passYears_p58 X ih _ _ _ _ _ _ _ _ hf)
def fX2_passYears (D : aD) (h : aH) (a0 : Option Nat) (a1 : Int32) : Option (Int32 × aH) :=
  (pF D h 1 0 a0 (.int (0 : Int32))).bind fun h1 =>
  (fX2_in D h1 a1 (1 : Int32) (50 : Int32)).bind fun x3 =>
  if x3 = 0 then
  ((aIs h1 1 a0).bind fun _ =>
  bnd2 (fX2_err D h1 a0 (1 : Int32)) fun x10 h11 =>
  some (x10, h11))
  else
  ((gI h1 1 1 a0).bind fun x5 =>
  if (x5 + a1) ≤ (200 : Int32) then
  (fX2_passYears_p41 D FU h1 a0 a1 (0 : Int32))
  else
  ((aIs h1 1 a0).bind fun _ =>
  bnd2 (fX2_err D h1 a0 (2 : Int32)) fun x7 h8 =>
  some (x7, h8)))
theorem vX2_passYears {h : aH} {a0 : Option Nat} {a1 : Int32} {q : Int32} {g : aH} (X : aX p l R s m meth c D n0 s0 yX2_passYears cX2_passYears 4 86 4 (some .int) h0) (hf : fX2_passYears D h a0 a1 = some (q, g)) : V p l e R s m args below meth c D n0 s0 (aEnd D below args s h0 (.inr (some (.int q)), g)) h 0 [(0, false, va_rf a0), (1, false, .int a1)] [] := by
  have C := X.1
  unfold fX2_passYears at hf
  refine v_aload_n (pc := 0) (j := 0) C dX2_passYears_0 rfl rfl ?_
  refine v_iconst (pc := 1) (v := (0 : Int32)) C dX2_passYears_1 rfl ?_
  obtain ⟨h1, eh1, hf⟩ := oB hf
  refine v_putF (pc := 2) C lk_X2_69 tyX2 tyX2_ok nmX2 (tyX2_ok 0 (by decide)) rfl rfl eh1 dX2_passYears_2 ?_
  refine v_iload_n (pc := 5) (j := 1) C dX2_passYears_5 rfl rfl ?_
  refine v_iconst (pc := 6) (v := (1 : Int32)) C dX2_passYears_6 rfl ?_
  refine v_bipush (pc := 7) (v := (50 : Int32)) C dX2_passYears_7 rfl ?_
  obtain ⟨x3, ex3, hf⟩ := oB hf
  refine v_call (pc := 9) (d_S (pc := 9) C (As := [.int a1, .int (1 : Int32), .int (50 : Int32)]) (rest := []) q2495 q2496 yk_X2_in rfl (by decide) (by decide) (Nat.le_trans aw_0 (by decide)) rfl (mX2_in C.st ex3) dX2_passYears_9) ?_
  refine v_if_ne (pc := 12) (tgt := 21) C dX2_passYears_12 rfl (fun hc => ?_) (fun hc => ?_)
  · rw [if_neg hc] at hf
    refine v_aload_n (pc := 21) (j := 0) C dX2_passYears_21 rfl rfl ?_
    obtain ⟨x5, ex5, hf⟩ := oB hf
    refine v_getF (pc := 22) C lk_X2_89 (gI_eq ex5) dX2_passYears_22 ?_
    refine v_iload_n (pc := 25) (j := 1) C dX2_passYears_25 rfl rfl ?_
    refine v_iadd (pc := 26) C dX2_passYears_26 ?_
    refine v_sipush (pc := 27) (v := (200 : Int32)) C dX2_passYears_27 rfl ?_
    refine v_icmp_le (pc := 30) (tgt := 39) C dX2_passYears_30 rfl (fun hc => ?_) (fun hc => ?_)
    · rw [if_pos hc] at hf
      refine v_iconst (pc := 39) (v := (0 : Int32)) C dX2_passYears_39 rfl ?_
      refine v_istore_n (pc := 40) (lv' := [(2, false, .int (0 : Int32)), (0, false, va_rf a0), (1, false, .int a1)]) C dX2_passYears_40 rfl (by decide) rfl ?_
      exact V.sub [1, 2, 0] rfl (vX2_passYears_p41 X _ _ _ _ _ _ _ hf)
    · rw [if_neg hc] at hf
      refine v_aload_n (pc := 33) (j := 0) C dX2_passYears_33 rfl rfl ?_
      refine v_iconst (pc := 34) (v := (2 : Int32)) C dX2_passYears_34 rfl ?_
      obtain ⟨b6, eb6, hf⟩ := oB hf
      obtain ⟨rb6, _, kb6⟩ := aIs_eq eb6
      obtain ⟨x7, h8, ex7, hf⟩ := bnd2_eq hf
      refine v_call (pc := 35) (d_V (pc := 35) C (As := [.int (2 : Int32)]) (rest := []) rb6 kb6 nt_1 q2498 yi_X2_err_FigureSurveyModel yk_X2_err rfl (by decide) (by decide) (Nat.le_trans aw_0 (by decide)) rfl (mX2_err C.st ex7) dX2_passYears_35) ?_
      cases hf
      exact v_ireturn (pc := 38) C X.2.1 X.2.2.1 X.2.2.2.1 rfl dX2_passYears_38
  · rw [if_pos (Decidable.of_not_not hc)] at hf
    refine v_aload_n (pc := 15) (j := 0) C dX2_passYears_15 rfl rfl ?_
    refine v_iconst (pc := 16) (v := (1 : Int32)) C dX2_passYears_16 rfl ?_
    obtain ⟨b9, eb9, hf⟩ := oB hf
    obtain ⟨rb9, _, kb9⟩ := aIs_eq eb9
    obtain ⟨x10, h11, ex10, hf⟩ := bnd2_eq hf
    refine v_call (pc := 17) (d_V (pc := 17) C (As := [.int (1 : Int32)]) (rest := []) rb9 kb9 nt_1 q2498 yi_X2_err_FigureSurveyModel yk_X2_err rfl (by decide) (by decide) (Nat.le_trans aw_0 (by decide)) rfl (mX2_err C.st ex10) dX2_passYears_17) ?_
    cases hf
    exact v_ireturn (pc := 20) C X.2.1 X.2.2.1 X.2.2.2.1 rfl dX2_passYears_20
theorem mX2_passYears {l : Launch} {D : aD} {h : aH} {a0 : Option Nat} {a1 : Int32} {q : Int32} {g : aH} (hst : l.stackTraces = false) (hf : fX2_passYears D h a0 a1 = some (q, g)) : aM l D yX2_passYears cX2_passYears 4 (some .int) 4 86 [va_rf a0, .int a1] h (.inr (some (.int q)), g) :=
  aM.ofX [(false, va_rf a0), (false, .int a1)] rfl (ap_r (ap_c rfl ap_0)) (by decide +kernel) hst (al_of (aw_r (aw_i aw_0)) (by decide)) fun p e s m args below meth c X => V.sub (lv' := [(0, false, va_rf a0), (1, false, .int a1)]) [0, 1] rfl (vX2_passYears X hf)
def fX2_setDecay_p50 (D : aD) (h : aH) (a0 : Option Nat) : Option (Int32 × aH) :=
  (aIs h 1 a0).bind fun _ =>
  bnd2 (fX2_err D h a0 (2 : Int32)) fun x2 h3 =>
  some (x2, h3)
theorem vX2_setDecay_p50 {h : aH} {a0 : Option Nat} {q : Int32} {g : aH} (X : aX p l R s m meth c D n0 s0 yX2_setDecay cX2_setDecay 4 86 5 (some .int) h0) (hf : fX2_setDecay_p50 D h a0 = some (q, g)) : V p l e R s m args below meth c D n0 s0 (aEnd D below args s h0 (.inr (some (.int q)), g)) h 50 [(0, false, va_rf a0)] [] := by
  have C := X.1
  unfold fX2_setDecay_p50 at hf
  refine v_aload_n (pc := 50) (j := 0) C dX2_setDecay_50 rfl rfl ?_
  refine v_iconst (pc := 51) (v := (2 : Int32)) C dX2_setDecay_51 rfl ?_
  obtain ⟨b1, eb1, hf⟩ := oB hf
  obtain ⟨rb1, _, kb1⟩ := aIs_eq eb1
  obtain ⟨x2, h3, ex2, hf⟩ := bnd2_eq hf
  refine v_call (pc := 52) (d_V (pc := 52) C (As := [.int (2 : Int32)]) (rest := []) rb1 kb1 nt_1 q2498 yi_X2_err_FigureSurveyModel yk_X2_err rfl (by decide) (by decide) (Nat.le_trans aw_0 (by decide)) rfl (mX2_err C.st ex2) dX2_setDecay_52) ?_
  cases hf
  exact v_ireturn (pc := 55) C X.2.1 X.2.2.1 X.2.2.2.1 rfl dX2_setDecay_55
def fX2_setDecay (D : aD) (h : aH) (a0 : Option Nat) (a1 : Int32) (a2 : Int32) (a3 : Int32) (a4 : Int32) : Option (Int32 × aH) :=
  (pF D h 1 0 a0 (.int (0 : Int32))).bind fun h1 =>
  (aIs h1 1 a0).bind fun _ =>
  (fX2_noPanel D h1 a0 a1).bind fun x3 =>
  if x3 = 0 then
  ((fX2_in D h1 a2 (0 : Int32) (9 : Int32)).bind fun x6 =>
  if x6 = 0 then
  (fX2_setDecay_p50 D h1 a0)
  else
  ((fX2_in D h1 a3 (0 : Int32) (9 : Int32)).bind fun x9 =>
  if x9 = 0 then
  (fX2_setDecay_p50 D h1 a0)
  else
  ((fX2_in D h1 a4 (0 : Int32) (9 : Int32)).bind fun x12 =>
  if x12 = 0 then
  (fX2_setDecay_p50 D h1 a0)
  else
  ((gR h1 1 4 a0).bind fun x14 =>
  (aIs h1 15 x14).bind fun _ =>
  (fJ2_get D h1 x14 a1).bind fun x16 =>
  (aCast h1 [100] x16).bind fun _ =>
  (sF D h1 100 x16 (2 : Int32) (.int a2)).bind fun h19 =>
  (gR h19 1 4 a0).bind fun x20 =>
  (aIs h19 15 x20).bind fun _ =>
  (fJ2_get D h19 x20 a1).bind fun x22 =>
  (aCast h19 [100] x22).bind fun _ =>
  (sF D h19 100 x22 (3 : Int32) (.int a3)).bind fun h25 =>
  (gR h25 1 4 a0).bind fun x26 =>
  (aIs h25 15 x26).bind fun _ =>
  (fJ2_get D h25 x26 a1).bind fun x28 =>
  (aCast h25 [100] x28).bind fun _ =>
  (sF D h25 100 x28 (4 : Int32) (.int a4)).bind fun h31 =>
  (aIs h31 1 a0).bind fun _ =>
  (fX2_decay D h31 a0 a1).bind fun x33 =>
  some (x33, h31)))))
  else
  ((aIs h1 1 a0).bind fun _ =>
  bnd2 (fX2_err D h1 a0 (1 : Int32)) fun x36 h37 =>
  some (x36, h37))
theorem vX2_setDecay {h : aH} {a0 : Option Nat} {a1 : Int32} {a2 : Int32} {a3 : Int32} {a4 : Int32} {q : Int32} {g : aH} (X : aX p l R s m meth c D n0 s0 yX2_setDecay cX2_setDecay 4 86 5 (some .int) h0) (hf : fX2_setDecay D h a0 a1 a2 a3 a4 = some (q, g)) : V p l e R s m args below meth c D n0 s0 (aEnd D below args s h0 (.inr (some (.int q)), g)) h 0 [(0, false, va_rf a0), (1, false, .int a1), (2, false, .int a2), (3, false, .int a3), (4, false, .int a4)] [] := by
  have C := X.1
  unfold fX2_setDecay at hf
  refine v_aload_n (pc := 0) (j := 0) C dX2_setDecay_0 rfl rfl ?_
  refine v_iconst (pc := 1) (v := (0 : Int32)) C dX2_setDecay_1 rfl ?_
  obtain ⟨h1, eh1, hf⟩ := oB hf
  refine v_putF (pc := 2) C lk_X2_69 tyX2 tyX2_ok nmX2 (tyX2_ok 0 (by decide)) rfl rfl eh1 dX2_setDecay_2 ?_
  refine v_aload_n (pc := 5) (j := 0) C dX2_setDecay_5 rfl rfl ?_
  refine v_iload_n (pc := 6) (j := 1) C dX2_setDecay_6 rfl rfl ?_
  obtain ⟨b2, eb2, hf⟩ := oB hf
  obtain ⟨rb2, _, kb2⟩ := aIs_eq eb2
  obtain ⟨x3, ex3, hf⟩ := oB hf
  refine v_call (pc := 7) (d_V (pc := 7) C (As := [.int a1]) (rest := []) rb2 kb2 nt_1 q2508 yi_X2_noPanel_FigureSurveyModel yk_X2_noPanel rfl (by decide) (by decide) (Nat.le_trans aw_0 (by decide)) rfl (mX2_noPanel C.st ex3) dX2_setDecay_7) ?_
  refine v_if_eq (pc := 10) (tgt := 19) C dX2_setDecay_10 rfl (fun hc => ?_) (fun hc => ?_)
  · rw [if_pos hc] at hf
    refine v_iload_n (pc := 19) (j := 2) C dX2_setDecay_19 rfl rfl ?_
    refine v_iconst (pc := 20) (v := (0 : Int32)) C dX2_setDecay_20 rfl ?_
    refine v_bipush (pc := 21) (v := (9 : Int32)) C dX2_setDecay_21 rfl ?_
    obtain ⟨x6, ex6, hf⟩ := oB hf
    refine v_call (pc := 23) (d_S (pc := 23) C (As := [.int a2, .int (0 : Int32), .int (9 : Int32)]) (rest := []) q2495 q2496 yk_X2_in rfl (by decide) (by decide) (Nat.le_trans aw_0 (by decide)) rfl (mX2_in C.st ex6) dX2_setDecay_23) ?_
    refine v_if_eq (pc := 26) (tgt := 50) C dX2_setDecay_26 rfl (fun hc => ?_) (fun hc => ?_)
    · rw [if_pos hc] at hf
      exact V.sub [0] rfl (vX2_setDecay_p50 X hf)
    · rw [if_neg hc] at hf
      refine v_iload_n (pc := 29) (j := 3) C dX2_setDecay_29 rfl rfl ?_
      refine v_iconst (pc := 30) (v := (0 : Int32)) C dX2_setDecay_30 rfl ?_
      refine v_bipush (pc := 31) (v := (9 : Int32)) C dX2_setDecay_31 rfl ?_
      obtain ⟨x9, ex9, hf⟩ := oB hf
      refine v_call (pc := 33) (d_S (pc := 33) C (As := [.int a3, .int (0 : Int32), .int (9 : Int32)]) (rest := []) q2495 q2496 yk_X2_in rfl (by decide) (by decide) (Nat.le_trans aw_0 (by decide)) rfl (mX2_in C.st ex9) dX2_setDecay_33) ?_
      refine v_if_eq (pc := 36) (tgt := 50) C dX2_setDecay_36 rfl (fun hc => ?_) (fun hc => ?_)
      · rw [if_pos hc] at hf
        exact V.sub [0] rfl (vX2_setDecay_p50 X hf)
      · rw [if_neg hc] at hf
        refine v_iload (pc := 39) (j := 4) C dX2_setDecay_39 rfl ?_
        refine v_iconst (pc := 41) (v := (0 : Int32)) C dX2_setDecay_41 rfl ?_
        refine v_bipush (pc := 42) (v := (9 : Int32)) C dX2_setDecay_42 rfl ?_
        obtain ⟨x12, ex12, hf⟩ := oB hf
        refine v_call (pc := 44) (d_S (pc := 44) C (As := [.int a4, .int (0 : Int32), .int (9 : Int32)]) (rest := []) q2495 q2496 yk_X2_in rfl (by decide) (by decide) (Nat.le_trans aw_0 (by decide)) rfl (mX2_in C.st ex12) dX2_setDecay_44) ?_
        refine v_if_ne (pc := 47) (tgt := 56) C dX2_setDecay_47 rfl (fun hc => ?_) (fun hc => ?_)
        · rw [if_neg hc] at hf
          refine v_aload_n (pc := 56) (j := 0) C dX2_setDecay_56 rfl rfl ?_
          obtain ⟨x14, ex14, hf⟩ := oB hf
          refine v_getF (pc := 57) C lk_X2_16 (gR_eq ex14) dX2_setDecay_57 ?_
          refine v_iload_n (pc := 60) (j := 1) C dX2_setDecay_60 rfl rfl ?_
          obtain ⟨b15, eb15, hf⟩ := oB hf
          obtain ⟨rb15, _, kb15⟩ := aIs_eq eb15
          obtain ⟨x16, ex16, hf⟩ := oB hf
          refine v_call (pc := 61) (d_V (pc := 61) C (As := [.int a1]) (rest := []) rb15 kb15 nt_15 q2520 yi_J2_get_java_util_ArrayList yk_J2_get rfl (by decide) (by decide) (Nat.le_trans aw_0 (by decide)) rfl (mJ2_get C.st ex16) dX2_setDecay_61) ?_
          obtain ⟨_, e18, hf⟩ := oB hf
          refine v_cast (pc := 64) C q2521 ct__I e18 dX2_setDecay_64 ?_
          refine v_iconst (pc := 67) (v := (2 : Int32)) C dX2_setDecay_67 rfl ?_
          refine v_iload_n (pc := 68) (j := 2) C dX2_setDecay_68 rfl rfl ?_
          obtain ⟨h19, eh19, hf⟩ := oB hf
          refine v_iastore (pc := 69) C eh19 dX2_setDecay_69 ?_
          refine v_aload_n (pc := 70) (j := 0) C dX2_setDecay_70 rfl rfl ?_
          obtain ⟨x20, ex20, hf⟩ := oB hf
          refine v_getF (pc := 71) C lk_X2_16 (gR_eq ex20) dX2_setDecay_71 ?_
          refine v_iload_n (pc := 74) (j := 1) C dX2_setDecay_74 rfl rfl ?_
          obtain ⟨b21, eb21, hf⟩ := oB hf
          obtain ⟨rb21, _, kb21⟩ := aIs_eq eb21
          obtain ⟨x22, ex22, hf⟩ := oB hf
          refine v_call (pc := 75) (d_V (pc := 75) C (As := [.int a1]) (rest := []) rb21 kb21 nt_15 q2520 yi_J2_get_java_util_ArrayList yk_J2_get rfl (by decide) (by decide) (Nat.le_trans aw_0 (by decide)) rfl (mJ2_get C.st ex22) dX2_setDecay_75) ?_
          obtain ⟨_, e24, hf⟩ := oB hf
          refine v_cast (pc := 78) C q2521 ct__I e24 dX2_setDecay_78 ?_
          refine v_iconst (pc := 81) (v := (3 : Int32)) C dX2_setDecay_81 rfl ?_
          refine v_iload_n (pc := 82) (j := 3) C dX2_setDecay_82 rfl rfl ?_
          obtain ⟨h25, eh25, hf⟩ := oB hf
          refine v_iastore (pc := 83) C eh25 dX2_setDecay_83 ?_
          refine v_aload_n (pc := 84) (j := 0) C dX2_setDecay_84 rfl rfl ?_
          obtain ⟨x26, ex26, hf⟩ := oB hf
          refine v_getF (pc := 85) C lk_X2_16 (gR_eq ex26) dX2_setDecay_85 ?_
          refine v_iload_n (pc := 88) (j := 1) C dX2_setDecay_88 rfl rfl ?_
          obtain ⟨b27, eb27, hf⟩ := oB hf
          obtain ⟨rb27, _, kb27⟩ := aIs_eq eb27
          obtain ⟨x28, ex28, hf⟩ := oB hf
          refine v_call (pc := 89) (d_V (pc := 89) C (As := [.int a1]) (rest := []) rb27 kb27 nt_15 q2520 yi_J2_get_java_util_ArrayList yk_J2_get rfl (by decide) (by decide) (Nat.le_trans aw_0 (by decide)) rfl (mJ2_get C.st ex28) dX2_setDecay_89) ?_
          obtain ⟨_, e30, hf⟩ := oB hf
          refine v_cast (pc := 92) C q2521 ct__I e30 dX2_setDecay_92 ?_
          refine v_iconst (pc := 95) (v := (4 : Int32)) C dX2_setDecay_95 rfl ?_
          refine v_iload (pc := 96) (j := 4) C dX2_setDecay_96 rfl ?_
          obtain ⟨h31, eh31, hf⟩ := oB hf
          refine v_iastore (pc := 98) C eh31 dX2_setDecay_98 ?_
          refine v_aload_n (pc := 99) (j := 0) C dX2_setDecay_99 rfl rfl ?_
          refine v_iload_n (pc := 100) (j := 1) C dX2_setDecay_100 rfl rfl ?_
          obtain ⟨b32, eb32, hf⟩ := oB hf
          obtain ⟨rb32, _, kb32⟩ := aIs_eq eb32
          obtain ⟨x33, ex33, hf⟩ := oB hf
          refine v_call (pc := 101) (d_V (pc := 101) C (As := [.int a1]) (rest := []) rb32 kb32 nt_1 q2850 yi_X2_decay_FigureSurveyModel yk_X2_decay rfl (by decide) (by decide) (Nat.le_trans aw_0 (by decide)) rfl (mX2_decay C.st ex33) dX2_setDecay_101) ?_
          cases hf
          exact v_ireturn (pc := 104) C X.2.1 X.2.2.1 X.2.2.2.1 rfl dX2_setDecay_104
        · rw [if_pos (Decidable.of_not_not hc)] at hf
          exact V.sub [0] rfl (vX2_setDecay_p50 X hf)
  · rw [if_neg hc] at hf
    refine v_aload_n (pc := 13) (j := 0) C dX2_setDecay_13 rfl rfl ?_
    refine v_iconst (pc := 14) (v := (1 : Int32)) C dX2_setDecay_14 rfl ?_
    obtain ⟨b35, eb35, hf⟩ := oB hf
    obtain ⟨rb35, _, kb35⟩ := aIs_eq eb35
    obtain ⟨x36, h37, ex36, hf⟩ := bnd2_eq hf
    refine v_call (pc := 15) (d_V (pc := 15) C (As := [.int (1 : Int32)]) (rest := []) rb35 kb35 nt_1 q2498 yi_X2_err_FigureSurveyModel yk_X2_err rfl (by decide) (by decide) (Nat.le_trans aw_0 (by decide)) rfl (mX2_err C.st ex36) dX2_setDecay_15) ?_
    cases hf
    exact v_ireturn (pc := 18) C X.2.1 X.2.2.1 X.2.2.2.1 rfl dX2_setDecay_18
theorem mX2_setDecay {l : Launch} {D : aD} {h : aH} {a0 : Option Nat} {a1 : Int32} {a2 : Int32} {a3 : Int32} {a4 : Int32} {q : Int32} {g : aH} (hst : l.stackTraces = false) (hf : fX2_setDecay D h a0 a1 a2 a3 a4 = some (q, g)) : aM l D yX2_setDecay cX2_setDecay 5 (some .int) 4 86 [va_rf a0, .int a1, .int a2, .int a3, .int a4] h (.inr (some (.int q)), g) :=
  aM.ofX [(false, va_rf a0), (false, .int a1), (false, .int a2), (false, .int a3), (false, .int a4)] rfl (ap_r (ap_c rfl (ap_c rfl (ap_c rfl (ap_c rfl ap_0))))) (by decide +kernel) hst (al_of (aw_r (aw_i (aw_i (aw_i (aw_i aw_0))))) (by decide)) fun p e s m args below meth c X => V.sub (lv' := [(0, false, va_rf a0), (1, false, .int a1), (2, false, .int a2), (3, false, .int a3), (4, false, .int a4)]) [0, 1, 2, 3, 4] rfl (vX2_setDecay X hf)
def fX2_healthOf (D : aD) (h : aH) (a0 : Option Nat) (a1 : Int32) : Option (Int32 × aH) :=
  (pF D h 1 0 a0 (.int (0 : Int32))).bind fun h1 =>
  (aIs h1 1 a0).bind fun _ =>
  (fX2_noPanel D h1 a0 a1).bind fun x3 =>
  if x3 = 0 then
  ((gR h1 1 4 a0).bind fun x5 =>
  (aIs h1 15 x5).bind fun _ =>
  (fJ2_get D h1 x5 a1).bind fun x7 =>
  (aCast h1 [100] x7).bind fun _ =>
  (eI h1 x7 (6 : Int32)).bind fun x10 =>
  some (x10, h1))
  else
  ((aIs h1 1 a0).bind fun _ =>
  bnd2 (fX2_err D h1 a0 (1 : Int32)) fun x12 h13 =>
  some (x12, h13))
theorem vX2_healthOf {h : aH} {a0 : Option Nat} {a1 : Int32} {q : Int32} {g : aH} (X : aX p l R s m meth c D n0 s0 yX2_healthOf cX2_healthOf 3 64 2 (some .int) h0) (hf : fX2_healthOf D h a0 a1 = some (q, g)) : V p l e R s m args below meth c D n0 s0 (aEnd D below args s h0 (.inr (some (.int q)), g)) h 0 [(0, false, va_rf a0), (1, false, .int a1)] [] := by
  have C := X.1
  unfold fX2_healthOf at hf
  refine v_aload_n (pc := 0) (j := 0) C dX2_healthOf_0 rfl rfl ?_
  refine v_iconst (pc := 1) (v := (0 : Int32)) C dX2_healthOf_1 rfl ?_
  obtain ⟨h1, eh1, hf⟩ := oB hf
  refine v_putF (pc := 2) C lk_X2_69 tyX2 tyX2_ok nmX2 (tyX2_ok 0 (by decide)) rfl rfl eh1 dX2_healthOf_2 ?_
  refine v_aload_n (pc := 5) (j := 0) C dX2_healthOf_5 rfl rfl ?_
  refine v_iload_n (pc := 6) (j := 1) C dX2_healthOf_6 rfl rfl ?_
  obtain ⟨b2, eb2, hf⟩ := oB hf
  obtain ⟨rb2, _, kb2⟩ := aIs_eq eb2
  obtain ⟨x3, ex3, hf⟩ := oB hf
  refine v_call (pc := 7) (d_V (pc := 7) C (As := [.int a1]) (rest := []) rb2 kb2 nt_1 q2508 yi_X2_noPanel_FigureSurveyModel yk_X2_noPanel rfl (by decide) (by decide) (Nat.le_trans aw_0 (by decide)) rfl (mX2_noPanel C.st ex3) dX2_healthOf_7) ?_
  refine v_if_eq (pc := 10) (tgt := 21) C dX2_healthOf_10 rfl (fun hc => ?_) (fun hc => ?_)
  · rw [if_pos hc] at hf
    refine v_aload_n (pc := 21) (j := 0) C dX2_healthOf_21 rfl rfl ?_
    obtain ⟨x5, ex5, hf⟩ := oB hf
    refine v_getF (pc := 22) C lk_X2_16 (gR_eq ex5) dX2_healthOf_22 ?_
    refine v_iload_n (pc := 25) (j := 1) C dX2_healthOf_25 rfl rfl ?_
    obtain ⟨b6, eb6, hf⟩ := oB hf
    obtain ⟨rb6, _, kb6⟩ := aIs_eq eb6
    obtain ⟨x7, ex7, hf⟩ := oB hf
    refine v_call (pc := 26) (d_V (pc := 26) C (As := [.int a1]) (rest := []) rb6 kb6 nt_15 q2520 yi_J2_get_java_util_ArrayList yk_J2_get rfl (by decide) (by decide) (Nat.le_trans aw_0 (by decide)) rfl (mJ2_get C.st ex7) dX2_healthOf_26) ?_
    obtain ⟨_, e9, hf⟩ := oB hf
    refine v_cast (pc := 29) C q2521 ct__I e9 dX2_healthOf_29 ?_
    refine v_bipush (pc := 32) (v := (6 : Int32)) C dX2_healthOf_32 rfl ?_
    obtain ⟨x10, ex10, hf⟩ := oB hf
    refine v_iaload (pc := 34) C ex10 dX2_healthOf_34 ?_
    cases hf
    exact v_ireturn (pc := 35) C X.2.1 X.2.2.1 X.2.2.2.1 rfl dX2_healthOf_35
  · rw [if_neg hc] at hf
    refine v_aload_n (pc := 13) (j := 0) C dX2_healthOf_13 rfl rfl ?_
    refine v_iconst (pc := 14) (v := (1 : Int32)) C dX2_healthOf_14 rfl ?_
    obtain ⟨b11, eb11, hf⟩ := oB hf
    obtain ⟨rb11, _, kb11⟩ := aIs_eq eb11
    obtain ⟨x12, h13, ex12, hf⟩ := bnd2_eq hf
    refine v_call (pc := 15) (d_V (pc := 15) C (As := [.int (1 : Int32)]) (rest := []) rb11 kb11 nt_1 q2498 yi_X2_err_FigureSurveyModel yk_X2_err rfl (by decide) (by decide) (Nat.le_trans aw_0 (by decide)) rfl (mX2_err C.st ex12) dX2_healthOf_15) ?_
    refine v_goto (pc := 18) (tgt := 35) C dX2_healthOf_18 rfl ?_
    cases hf
    exact v_ireturn (pc := 35) C X.2.1 X.2.2.1 X.2.2.2.1 rfl dX2_healthOf_35
theorem mX2_healthOf {l : Launch} {D : aD} {h : aH} {a0 : Option Nat} {a1 : Int32} {q : Int32} {g : aH} (hst : l.stackTraces = false) (hf : fX2_healthOf D h a0 a1 = some (q, g)) : aM l D yX2_healthOf cX2_healthOf 2 (some .int) 3 64 [va_rf a0, .int a1] h (.inr (some (.int q)), g) :=
  aM.ofX [(false, va_rf a0), (false, .int a1)] rfl (ap_r (ap_c rfl ap_0)) (by decide +kernel) hst (al_of (aw_r (aw_i aw_0)) (by decide)) fun p e s m args below meth c X => V.sub (lv' := [(0, false, va_rf a0), (1, false, .int a1)]) [0, 1] rfl (vX2_healthOf X hf)
def fX2_addWork_p40 (D : aD) (h : aH) (a0 : Option Nat) : Option (Int32 × aH) :=
  (aIs h 1 a0).bind fun _ =>
  bnd2 (fX2_err D h a0 (2 : Int32)) fun x2 h3 =>
  some (x2, h3)
theorem vX2_addWork_p40 {h : aH} {a0 : Option Nat} {q : Int32} {g : aH} (X : aX p l R s m meth c D n0 s0 yX2_addWork cX2_addWork 7 152 4 (some .int) h0) (hf : fX2_addWork_p40 D h a0 = some (q, g)) : V p l e R s m args below meth c D n0 s0 (aEnd D below args s h0 (.inr (some (.int q)), g)) h 40 [(0, false, va_rf a0)] [] := by
  have C := X.1
  unfold fX2_addWork_p40 at hf
  refine v_aload_n (pc := 40) (j := 0) C dX2_addWork_40 rfl rfl ?_
  refine v_iconst (pc := 41) (v := (2 : Int32)) C dX2_addWork_41 rfl ?_
  obtain ⟨b1, eb1, hf⟩ := oB hf
  obtain ⟨rb1, _, kb1⟩ := aIs_eq eb1
  obtain ⟨x2, h3, ex2, hf⟩ := bnd2_eq hf
  refine v_call (pc := 42) (d_V (pc := 42) C (As := [.int (2 : Int32)]) (rest := []) rb1 kb1 nt_1 q2498 yi_X2_err_FigureSurveyModel yk_X2_err rfl (by decide) (by decide) (Nat.le_trans aw_0 (by decide)) rfl (mX2_err C.st ex2) dX2_addWork_42) ?_
  cases hf
  exact v_ireturn (pc := 45) C X.2.1 X.2.2.1 X.2.2.2.1 rfl dX2_addWork_45
def fX2_addWork (D : aD) (h : aH) (a0 : Option Nat) (a1 : Int32) (a2 : Int32) (a3 : Int32) : Option (Int32 × aH) :=
  (pF D h 1 0 a0 (.int (0 : Int32))).bind fun h1 =>
  (aIs h1 1 a0).bind fun _ =>
  (fX2_noPanel D h1 a0 a1).bind fun x3 =>
  if x3 = 0 then
  ((fX2_in D h1 a2 (1 : Int32) (1000 : Int32)).bind fun x6 =>
  if x6 = 0 then
  (fX2_addWork_p40 D h1 a0)
  else
  ((fX2_in D h1 a3 (1 : Int32) (50 : Int32)).bind fun x9 =>
  if x9 = 0 then
  (fX2_addWork_p40 D h1 a0)
  else
  ((gR h1 1 19 a0).bind fun x11 =>
  (aIs h1 15 x11).bind fun _ =>
  (fJ2_size D h1 x11).bind fun x13 =>
  if x13 = (10 : Int32) then
  ((aIs h1 1 a0).bind fun _ =>
  bnd2 (fX2_err D h1 a0 (3 : Int32)) fun x29 h30 =>
  some (x29, h30))
  else
  ((gR h1 1 19 a0).bind fun x15 =>
  (aMkA D h1 100 (4 : Int32) (.int 0)).bind fun h16 =>
  (sF D h16 100 (some h1.1) (0 : Int32) (.int a1)).bind fun h17 =>
  (sF D h17 100 (some h1.1) (1 : Int32) (.int a2)).bind fun h18 =>
  (sF D h18 100 (some h1.1) (2 : Int32) (.int a3)).bind fun h19 =>
  (sF D h19 100 (some h1.1) (3 : Int32) (.int (0 : Int32))).bind fun h20 =>
  (aIs h20 15 x15).bind fun _ =>
  bnd2 (fJ2_add D h20 x15 (some h1.1)) fun x22 h23 =>
  (gR h23 1 19 a0).bind fun x24 =>
  (aIs h23 15 x24).bind fun _ =>
  (fJ2_size D h23 x24).bind fun x26 =>
  some ((x26 - (1 : Int32)), h23)))))
  else
  ((aIs h1 1 a0).bind fun _ =>
  bnd2 (fX2_err D h1 a0 (1 : Int32)) fun x32 h33 =>
  some (x32, h33))
theorem vX2_addWork {h : aH} {a0 : Option Nat} {a1 : Int32} {a2 : Int32} {a3 : Int32} {q : Int32} {g : aH} (X : aX p l R s m meth c D n0 s0 yX2_addWork cX2_addWork 7 152 4 (some .int) h0) (hf : fX2_addWork D h a0 a1 a2 a3 = some (q, g)) : V p l e R s m args below meth c D n0 s0 (aEnd D below args s h0 (.inr (some (.int q)), g)) h 0 [(0, false, va_rf a0), (1, false, .int a1), (2, false, .int a2), (3, false, .int a3)] [] := by
  have C := X.1
  unfold fX2_addWork at hf
  refine v_aload_n (pc := 0) (j := 0) C dX2_addWork_0 rfl rfl ?_
  refine v_iconst (pc := 1) (v := (0 : Int32)) C dX2_addWork_1 rfl ?_
  obtain ⟨h1, eh1, hf⟩ := oB hf
  refine v_putF (pc := 2) C lk_X2_69 tyX2 tyX2_ok nmX2 (tyX2_ok 0 (by decide)) rfl rfl eh1 dX2_addWork_2 ?_
  refine v_aload_n (pc := 5) (j := 0) C dX2_addWork_5 rfl rfl ?_
  refine v_iload_n (pc := 6) (j := 1) C dX2_addWork_6 rfl rfl ?_
  obtain ⟨b2, eb2, hf⟩ := oB hf
  obtain ⟨rb2, _, kb2⟩ := aIs_eq eb2
  obtain ⟨x3, ex3, hf⟩ := oB hf
  refine v_call (pc := 7) (d_V (pc := 7) C (As := [.int a1]) (rest := []) rb2 kb2 nt_1 q2508 yi_X2_noPanel_FigureSurveyModel yk_X2_noPanel rfl (by decide) (by decide) (Nat.le_trans aw_0 (by decide)) rfl (mX2_noPanel C.st ex3) dX2_addWork_7) ?_
  refine v_if_eq (pc := 10) (tgt := 19) C dX2_addWork_10 rfl (fun hc => ?_) (fun hc => ?_)
  · rw [if_pos hc] at hf
    refine v_iload_n (pc := 19) (j := 2) C dX2_addWork_19 rfl rfl ?_
    refine v_iconst (pc := 20) (v := (1 : Int32)) C dX2_addWork_20 rfl ?_
    refine v_sipush (pc := 21) (v := (1000 : Int32)) C dX2_addWork_21 rfl ?_
    obtain ⟨x6, ex6, hf⟩ := oB hf
    refine v_call (pc := 24) (d_S (pc := 24) C (As := [.int a2, .int (1 : Int32), .int (1000 : Int32)]) (rest := []) q2495 q2496 yk_X2_in rfl (by decide) (by decide) (Nat.le_trans aw_0 (by decide)) rfl (mX2_in C.st ex6) dX2_addWork_24) ?_
    refine v_if_eq (pc := 27) (tgt := 40) C dX2_addWork_27 rfl (fun hc => ?_) (fun hc => ?_)
    · rw [if_pos hc] at hf
      exact V.sub [0] rfl (vX2_addWork_p40 X hf)
    · rw [if_neg hc] at hf
      refine v_iload_n (pc := 30) (j := 3) C dX2_addWork_30 rfl rfl ?_
      refine v_iconst (pc := 31) (v := (1 : Int32)) C dX2_addWork_31 rfl ?_
      refine v_bipush (pc := 32) (v := (50 : Int32)) C dX2_addWork_32 rfl ?_
      obtain ⟨x9, ex9, hf⟩ := oB hf
      refine v_call (pc := 34) (d_S (pc := 34) C (As := [.int a3, .int (1 : Int32), .int (50 : Int32)]) (rest := []) q2495 q2496 yk_X2_in rfl (by decide) (by decide) (Nat.le_trans aw_0 (by decide)) rfl (mX2_in C.st ex9) dX2_addWork_34) ?_
      refine v_if_ne (pc := 37) (tgt := 46) C dX2_addWork_37 rfl (fun hc => ?_) (fun hc => ?_)
      · rw [if_neg hc] at hf
        refine v_aload_n (pc := 46) (j := 0) C dX2_addWork_46 rfl rfl ?_
        obtain ⟨x11, ex11, hf⟩ := oB hf
        refine v_getF (pc := 47) C lk_X2_66 (gR_eq ex11) dX2_addWork_47 ?_
        obtain ⟨b12, eb12, hf⟩ := oB hf
        obtain ⟨rb12, _, kb12⟩ := aIs_eq eb12
        obtain ⟨x13, ex13, hf⟩ := oB hf
        refine v_call (pc := 50) (d_V (pc := 50) C (As := []) (rest := []) rb12 kb12 nt_15 q2502 yi_J2_size_java_util_ArrayList yk_J2_size rfl (by decide) (by decide) (Nat.le_trans aw_0 (by decide)) rfl (mJ2_size C.st ex13) dX2_addWork_50) ?_
        refine v_bipush (pc := 53) (v := (10 : Int32)) C dX2_addWork_53 rfl ?_
        refine v_icmp_ne (pc := 55) (tgt := 64) C dX2_addWork_55 rfl (fun hc => ?_) (fun hc => ?_)
        · rw [if_neg hc] at hf
          refine v_aload_n (pc := 64) (j := 0) C dX2_addWork_64 rfl rfl ?_
          obtain ⟨x15, ex15, hf⟩ := oB hf
          refine v_getF (pc := 65) C lk_X2_66 (gR_eq ex15) dX2_addWork_65 ?_
          refine v_iconst (pc := 68) (v := (4 : Int32)) C dX2_addWork_68 rfl ?_
          obtain ⟨h16, eh16, hf⟩ := oB hf
          refine v_newarray (pc := 69) (t := 100) (v := .int 0) C q169 rfl rfl (by decide) (by decide) rfl eh16 dX2_addWork_69 ?_
          refine v_dup (pc := 71) C dX2_addWork_71 (va_rfc _) ?_
          refine v_iconst (pc := 72) (v := (0 : Int32)) C dX2_addWork_72 rfl ?_
          refine v_iload_n (pc := 73) (j := 1) C dX2_addWork_73 rfl rfl ?_
          obtain ⟨h17, eh17, hf⟩ := oB hf
          refine v_iastore (pc := 74) C eh17 dX2_addWork_74 ?_
          refine v_dup (pc := 75) C dX2_addWork_75 (va_rfc _) ?_
          refine v_iconst (pc := 76) (v := (1 : Int32)) C dX2_addWork_76 rfl ?_
          refine v_iload_n (pc := 77) (j := 2) C dX2_addWork_77 rfl rfl ?_
          obtain ⟨h18, eh18, hf⟩ := oB hf
          refine v_iastore (pc := 78) C eh18 dX2_addWork_78 ?_
          refine v_dup (pc := 79) C dX2_addWork_79 (va_rfc _) ?_
          refine v_iconst (pc := 80) (v := (2 : Int32)) C dX2_addWork_80 rfl ?_
          refine v_iload_n (pc := 81) (j := 3) C dX2_addWork_81 rfl rfl ?_
          obtain ⟨h19, eh19, hf⟩ := oB hf
          refine v_iastore (pc := 82) C eh19 dX2_addWork_82 ?_
          refine v_dup (pc := 83) C dX2_addWork_83 (va_rfc _) ?_
          refine v_iconst (pc := 84) (v := (3 : Int32)) C dX2_addWork_84 rfl ?_
          refine v_iconst (pc := 85) (v := (0 : Int32)) C dX2_addWork_85 rfl ?_
          obtain ⟨h20, eh20, hf⟩ := oB hf
          refine v_iastore (pc := 86) C eh20 dX2_addWork_86 ?_
          obtain ⟨b21, eb21, hf⟩ := oB hf
          obtain ⟨rb21, _, kb21⟩ := aIs_eq eb21
          obtain ⟨x22, h23, ex22, hf⟩ := bnd2_eq hf
          refine v_call (pc := 87) (d_V (pc := 87) C (As := [va_rf (some h1.1)]) (rest := []) rb21 kb21 nt_15 q2503 yi_J2_add_java_util_ArrayList yk_J2_add rfl (by decide) (by decide) (Nat.le_trans aw_0 (by decide)) rfl (mJ2_add C.st ex22) dX2_addWork_87) ?_
          refine v_pop (pc := 90) C dX2_addWork_90 rfl ?_
          refine v_aload_n (pc := 91) (j := 0) C dX2_addWork_91 rfl rfl ?_
          obtain ⟨x24, ex24, hf⟩ := oB hf
          refine v_getF (pc := 92) C lk_X2_66 (gR_eq ex24) dX2_addWork_92 ?_
          obtain ⟨b25, eb25, hf⟩ := oB hf
          obtain ⟨rb25, _, kb25⟩ := aIs_eq eb25
          obtain ⟨x26, ex26, hf⟩ := oB hf
          refine v_call (pc := 95) (d_V (pc := 95) C (As := []) (rest := []) rb25 kb25 nt_15 q2502 yi_J2_size_java_util_ArrayList yk_J2_size rfl (by decide) (by decide) (Nat.le_trans aw_0 (by decide)) rfl (mJ2_size C.st ex26) dX2_addWork_95) ?_
          refine v_iconst (pc := 98) (v := (1 : Int32)) C dX2_addWork_98 rfl ?_
          refine v_isub (pc := 99) C dX2_addWork_99 ?_
          cases hf
          exact v_ireturn (pc := 100) C X.2.1 X.2.2.1 X.2.2.2.1 rfl dX2_addWork_100
        · rw [if_pos (Decidable.of_not_not hc)] at hf
          refine v_aload_n (pc := 58) (j := 0) C dX2_addWork_58 rfl rfl ?_
          refine v_iconst (pc := 59) (v := (3 : Int32)) C dX2_addWork_59 rfl ?_
          obtain ⟨b28, eb28, hf⟩ := oB hf
          obtain ⟨rb28, _, kb28⟩ := aIs_eq eb28
          obtain ⟨x29, h30, ex29, hf⟩ := bnd2_eq hf
          refine v_call (pc := 60) (d_V (pc := 60) C (As := [.int (3 : Int32)]) (rest := []) rb28 kb28 nt_1 q2498 yi_X2_err_FigureSurveyModel yk_X2_err rfl (by decide) (by decide) (Nat.le_trans aw_0 (by decide)) rfl (mX2_err C.st ex29) dX2_addWork_60) ?_
          cases hf
          exact v_ireturn (pc := 63) C X.2.1 X.2.2.1 X.2.2.2.1 rfl dX2_addWork_63
      · rw [if_pos (Decidable.of_not_not hc)] at hf
        exact V.sub [0] rfl (vX2_addWork_p40 X hf)
  · rw [if_neg hc] at hf
    refine v_aload_n (pc := 13) (j := 0) C dX2_addWork_13 rfl rfl ?_
    refine v_iconst (pc := 14) (v := (1 : Int32)) C dX2_addWork_14 rfl ?_
    obtain ⟨b31, eb31, hf⟩ := oB hf
    obtain ⟨rb31, _, kb31⟩ := aIs_eq eb31
    obtain ⟨x32, h33, ex32, hf⟩ := bnd2_eq hf
    refine v_call (pc := 15) (d_V (pc := 15) C (As := [.int (1 : Int32)]) (rest := []) rb31 kb31 nt_1 q2498 yi_X2_err_FigureSurveyModel yk_X2_err rfl (by decide) (by decide) (Nat.le_trans aw_0 (by decide)) rfl (mX2_err C.st ex32) dX2_addWork_15) ?_
    cases hf
    exact v_ireturn (pc := 18) C X.2.1 X.2.2.1 X.2.2.2.1 rfl dX2_addWork_18
theorem mX2_addWork {l : Launch} {D : aD} {h : aH} {a0 : Option Nat} {a1 : Int32} {a2 : Int32} {a3 : Int32} {q : Int32} {g : aH} (hst : l.stackTraces = false) (hf : fX2_addWork D h a0 a1 a2 a3 = some (q, g)) : aM l D yX2_addWork cX2_addWork 4 (some .int) 7 152 [va_rf a0, .int a1, .int a2, .int a3] h (.inr (some (.int q)), g) :=
  aM.ofX [(false, va_rf a0), (false, .int a1), (false, .int a2), (false, .int a3)] rfl (ap_r (ap_c rfl (ap_c rfl (ap_c rfl ap_0)))) (by decide +kernel) hst (al_of (aw_r (aw_i (aw_i (aw_i aw_0)))) (by decide)) fun p e s m args below meth c X => V.sub (lv' := [(0, false, va_rf a0), (1, false, .int a1), (2, false, .int a2), (3, false, .int a3)]) [0, 1, 2, 3] rfl (vX2_addWork X hf)
def fX2_genuineOn_p40 (D : aD) (K4 : aH → (Option Nat) → Int32 → Int32 → Int32 → Option (Int32 × aH)) (h : aH) (a0 : Option Nat) (a1 : Int32) (a3 : Int32) (t0 : Int32) (t1 : Int32) : Option (Int32 × aH) :=
  (some ((t0 + t1))).bind fun x1 =>
  K4 h a0 a1 x1 (a3 + 1)
theorem vX2_genuineOn_p40 {h : aH} {K4 : aH → (Option Nat) → Int32 → Int32 → Int32 → Option (Int32 × aH)} {a0 : Option Nat} {a1 : Int32} {a3 : Int32} {t0 : Int32} {t1 : Int32} {q : Int32} {g : aH} (X : aX p l R s m meth c D n0 s0 yX2_genuineOn cX2_genuineOn 7 164 4 (some .int) h0) (k4 : ∀ (h : aH) (a0 : Option Nat) (a1 : Int32) (a2 : Int32) (a3 : Int32) (q : Int32) (g : aH), K4 h a0 a1 a2 a3 = some (q, g) → V p l e R s m args below meth c D n0 s0 (aEnd D below args s h0 (.inr (some (.int q)), g)) h 4 [(0, false, va_rf a0), (1, false, .int a1), (2, false, .int a2), (3, false, .int a3)] []) (hf : fX2_genuineOn_p40 D K4 h a0 a1 a3 t0 t1 = some (q, g)) : V p l e R s m args below meth c D n0 s0 (aEnd D below args s h0 (.inr (some (.int q)), g)) h 40 [(0, false, va_rf a0), (1, false, .int a1), (3, false, .int a3)] [.int t1, .int t0] := by
  have C := X.1
  unfold fX2_genuineOn_p40 at hf
  refine v_iadd (pc := 40) C dX2_genuineOn_40 ?_
  obtain ⟨x1, ex1, hf⟩ := oB hf
  refine vst (Option.some.inj ex1) (fun z => .int z :: []) ?_
  refine v_istore_n (pc := 41) (lv' := [(2, false, .int x1), (0, false, va_rf a0), (1, false, .int a1), (3, false, .int a3)]) C dX2_genuineOn_41 rfl (by decide) rfl ?_
  refine v_iinc (pc := 42) (j := 3) (v := (a3 + 1)) (lv' := [(3, false, .int (a3 + 1)), (2, false, .int x1), (0, false, va_rf a0), (1, false, .int a1)]) C dX2_genuineOn_42 rfl rfl (by decide) rfl ?_
  refine v_goto (pc := 45) (tgt := 4) C dX2_genuineOn_45 rfl ?_
  exact V.sub [2, 3, 1, 0] rfl (k4 _ _ _ _ _ _ _ hf)
def fX2_genuineOn_p4 (D : aD) : Nat → aH → (Option Nat) → Int32 → Int32 → Int32 → Option (Int32 × aH)
  | 0, _, _, _, _, _ => none
  | n + 1, h, a0, a1, a2, a3 =>
  (gR h 1 9 a0).bind fun x1 =>
  (aIs h 15 x1).bind fun _ =>
  (fJ2_size D h x1).bind fun x3 =>
  if x3 ≤ a3 then
  (some (a2, h))
  else
  ((aIs h 1 a0).bind fun _ =>
  (fX2_panelOf D h a0 a3).bind fun x6 =>
  if x6 = a1 then
  ((aIs h 1 a0).bind fun _ =>
  bnd2 (fX2_doubt D h a0 a3) fun x9 h10 =>
  fX2_genuineOn_p40 D (fX2_genuineOn_p4 D n) h10 a0 a1 a3 a2 (if (10 : Int32) ≤ x9 then (0 : Int32) else (1 : Int32)))
  else
  (fX2_genuineOn_p40 D (fX2_genuineOn_p4 D n) h a0 a1 a3 a2 (0 : Int32)))
theorem vX2_genuineOn_p4 (X : aX p l R s m meth c D n0 s0 yX2_genuineOn cX2_genuineOn 7 164 4 (some .int) h0) : ∀ (n : Nat) (h : aH) (a0 : Option Nat) (a1 : Int32) (a2 : Int32) (a3 : Int32) (q : Int32) (g : aH), fX2_genuineOn_p4 D n h a0 a1 a2 a3 = some (q, g) → V p l e R s m args below meth c D n0 s0 (aEnd D below args s h0 (.inr (some (.int q)), g)) h 4 [(0, false, va_rf a0), (1, false, .int a1), (2, false, .int a2), (3, false, .int a3)] [] := by
  have C := X.1
  intro n
  induction n with
  | zero =>
    intro _ _ _ _ _ _ _ hf
    rw [fX2_genuineOn_p4] at hf
    cases hf
  | succ n ih =>
    intro h a0 a1 a2 a3 q g hf
    rw [fX2_genuineOn_p4] at hf
    refine v_iload_n (pc := 4) (j := 3) C dX2_genuineOn_4 rfl rfl ?_
    refine v_aload_n (pc := 5) (j := 0) C dX2_genuineOn_5 rfl rfl ?_
    obtain ⟨x1, ex1, hf⟩ := oB hf
    refine v_getF (pc := 6) C lk_X2_33 (gR_eq ex1) dX2_genuineOn_6 ?_
    obtain ⟨b2, eb2, hf⟩ := oB hf
    obtain ⟨rb2, _, kb2⟩ := aIs_eq eb2
    obtain ⟨x3, ex3, hf⟩ := oB hf
    refine v_call (pc := 9) (d_V (pc := 9) C (As := []) (rest := [.int a3]) rb2 kb2 nt_15 q2502 yi_J2_size_java_util_ArrayList yk_J2_size rfl (by decide) (by decide) (Nat.le_trans (aw_i aw_0) (by decide)) rfl (mJ2_size C.st ex3) dX2_genuineOn_9) ?_
    refine v_icmp_ge (pc := 12) (tgt := 48) C dX2_genuineOn_12 rfl (fun hc => ?_) (fun hc => ?_)
    · rw [if_pos hc] at hf
      refine v_iload_n (pc := 48) (j := 2) C dX2_genuineOn_48 rfl rfl ?_
      cases hf
      exact v_ireturn (pc := 49) C X.2.1 X.2.2.1 X.2.2.2.1 rfl dX2_genuineOn_49
    · rw [if_neg hc] at hf
      refine v_iload_n (pc := 15) (j := 2) C dX2_genuineOn_15 rfl rfl ?_
      refine v_aload_n (pc := 16) (j := 0) C dX2_genuineOn_16 rfl rfl ?_
      refine v_iload_n (pc := 17) (j := 3) C dX2_genuineOn_17 rfl rfl ?_
      obtain ⟨b5, eb5, hf⟩ := oB hf
      obtain ⟨rb5, _, kb5⟩ := aIs_eq eb5
      obtain ⟨x6, ex6, hf⟩ := oB hf
      refine v_call (pc := 18) (d_V (pc := 18) C (As := [.int a3]) (rest := [.int a2]) rb5 kb5 nt_1 q2552 yi_X2_panelOf_FigureSurveyModel yk_X2_panelOf rfl (by decide) (by decide) (Nat.le_trans (aw_i aw_0) (by decide)) rfl (mX2_panelOf C.st ex6) dX2_genuineOn_18) ?_
      refine v_iload_n (pc := 21) (j := 1) C dX2_genuineOn_21 rfl rfl ?_
      refine v_icmp_ne (pc := 22) (tgt := 39) C dX2_genuineOn_22 rfl (fun hc => ?_) (fun hc => ?_)
      · rw [if_neg hc] at hf
        refine v_iconst (pc := 39) (v := (0 : Int32)) C dX2_genuineOn_39 rfl ?_
        exact V.sub [0, 1, 3] rfl (vX2_genuineOn_p40 X ih hf)
      · rw [if_pos (Decidable.of_not_not hc)] at hf
        refine v_aload_n (pc := 25) (j := 0) C dX2_genuineOn_25 rfl rfl ?_
        refine v_iload_n (pc := 26) (j := 3) C dX2_genuineOn_26 rfl rfl ?_
        obtain ⟨b8, eb8, hf⟩ := oB hf
        obtain ⟨rb8, _, kb8⟩ := aIs_eq eb8
        obtain ⟨x9, h10, ex9, hf⟩ := bnd2_eq hf
        refine v_call (pc := 27) (d_V (pc := 27) C (As := [.int a3]) (rest := [.int a2]) rb8 kb8 nt_1 q2633 yi_X2_doubt_FigureSurveyModel yk_X2_doubt rfl (by decide) (by decide) (Nat.le_trans (aw_i aw_0) (by decide)) rfl (mX2_doubt C.st ex9) dX2_genuineOn_27) ?_
        refine v_bipush (pc := 30) (v := (10 : Int32)) C dX2_genuineOn_30 rfl ?_
        refine v_icmp_ge (pc := 32) (tgt := 39) C dX2_genuineOn_32 rfl (fun hc => ?_) (fun hc => ?_)
        · simp only [if_pos hc] at hf
          refine v_iconst (pc := 39) (v := (0 : Int32)) C dX2_genuineOn_39 rfl ?_
          exact V.sub [0, 1, 3] rfl (vX2_genuineOn_p40 X ih hf)
        · simp only [if_neg hc] at hf
          refine v_iconst (pc := 35) (v := (1 : Int32)) C dX2_genuineOn_35 rfl ?_
          refine v_goto (pc := 36) (tgt := 40) C dX2_genuineOn_36 rfl ?_
          exact V.sub [0, 1, 3] rfl (vX2_genuineOn_p40 X ih hf)
def fX2_genuineOn (D : aD) (h : aH) (a0 : Option Nat) (a1 : Int32) : Option (Int32 × aH) :=
  fX2_genuineOn_p4 D FU h a0 a1 (0 : Int32) (0 : Int32)
theorem vX2_genuineOn {h : aH} {a0 : Option Nat} {a1 : Int32} {q : Int32} {g : aH} (X : aX p l R s m meth c D n0 s0 yX2_genuineOn cX2_genuineOn 7 164 4 (some .int) h0) (hf : fX2_genuineOn D h a0 a1 = some (q, g)) : V p l e R s m args below meth c D n0 s0 (aEnd D below args s h0 (.inr (some (.int q)), g)) h 0 [(0, false, va_rf a0), (1, false, .int a1)] [] := by
  have C := X.1
  unfold fX2_genuineOn at hf
  refine v_iconst (pc := 0) (v := (0 : Int32)) C dX2_genuineOn_0 rfl ?_
  refine v_istore_n (pc := 1) (lv' := [(2, false, .int (0 : Int32)), (0, false, va_rf a0), (1, false, .int a1)]) C dX2_genuineOn_1 rfl (by decide) rfl ?_
  refine v_iconst (pc := 2) (v := (0 : Int32)) C dX2_genuineOn_2 rfl ?_
  refine v_istore_n (pc := 3) (lv' := [(3, false, .int (0 : Int32)), (2, false, .int (0 : Int32)), (0, false, va_rf a0), (1, false, .int a1)]) C dX2_genuineOn_3 rfl (by decide) rfl ?_
  exact V.sub [2, 3, 1, 0] rfl (vX2_genuineOn_p4 X _ _ _ _ _ _ _ _ hf)
theorem mX2_genuineOn {l : Launch} {D : aD} {h : aH} {a0 : Option Nat} {a1 : Int32} {q : Int32} {g : aH} (hst : l.stackTraces = false) (hf : fX2_genuineOn D h a0 a1 = some (q, g)) : aM l D yX2_genuineOn cX2_genuineOn 4 (some .int) 7 164 [va_rf a0, .int a1] h (.inr (some (.int q)), g) :=
  aM.ofX [(false, va_rf a0), (false, .int a1)] rfl (ap_r (ap_c rfl ap_0)) (by decide +kernel) hst (al_of (aw_r (aw_i aw_0)) (by decide)) fun p e s m args below meth c X => V.sub (lv' := [(0, false, va_rf a0), (1, false, .int a1)]) [0, 1] rfl (vX2_genuineOn X hf)
def fX2_bestWorks_p167 (D : aD) (K71 : aH → (Option Nat) → Int32 → (Option Nat) → Int32 → Int32 → Int32 → Int32 → Option (Int32 × aH)) (K92 : aH → (Option Nat) → Int32 → (Option Nat) → Int32 → Int32 → Int32 → Int32 → Int32 → Int32 → Int32 → Int32 → Option (Int32 × aH)) (h : aH) (a0 : Option Nat) (a1 : Int32) (a2 : Option Nat) (a3 : Int32) (a4 : Int32) (a5 : Int32) (a6 : Int32) (a7 : Int32) (a8 : Int32) (a9 : Int32) (a10 : Int32) : Option (Int32 × aH) :=
  K92 h a0 a1 a2 a3 a4 a5 a6 a7 a8 a9 (a10 + 1)
theorem vX2_bestWorks_p167 {h : aH} {K71 : aH → (Option Nat) → Int32 → (Option Nat) → Int32 → Int32 → Int32 → Int32 → Option (Int32 × aH)} {K92 : aH → (Option Nat) → Int32 → (Option Nat) → Int32 → Int32 → Int32 → Int32 → Int32 → Int32 → Int32 → Int32 → Option (Int32 × aH)} {a0 : Option Nat} {a1 : Int32} {a2 : Option Nat} {a3 : Int32} {a4 : Int32} {a5 : Int32} {a6 : Int32} {a7 : Int32} {a8 : Int32} {a9 : Int32} {a10 : Int32} {q : Int32} {g : aH} (X : aX p l R s m meth c D n0 s0 yX2_bestWorks cX2_bestWorks 8 187 11 (some .int) h0) (k71 : ∀ (h : aH) (a0 : Option Nat) (a1 : Int32) (a2 : Option Nat) (a3 : Int32) (a4 : Int32) (a5 : Int32) (a6 : Int32) (q : Int32) (g : aH), K71 h a0 a1 a2 a3 a4 a5 a6 = some (q, g) → V p l e R s m args below meth c D n0 s0 (aEnd D below args s h0 (.inr (some (.int q)), g)) h 71 [(0, false, va_rf a0), (1, false, .int a1), (2, false, va_rf a2), (3, false, .int a3), (4, false, .int a4), (5, false, .int a5), (6, false, .int a6)] []) (k92 : ∀ (h : aH) (a0 : Option Nat) (a1 : Int32) (a2 : Option Nat) (a3 : Int32) (a4 : Int32) (a5 : Int32) (a6 : Int32) (a7 : Int32) (a8 : Int32) (a9 : Int32) (a10 : Int32) (q : Int32) (g : aH), K92 h a0 a1 a2 a3 a4 a5 a6 a7 a8 a9 a10 = some (q, g) → V p l e R s m args below meth c D n0 s0 (aEnd D below args s h0 (.inr (some (.int q)), g)) h 92 [(0, false, va_rf a0), (1, false, .int a1), (2, false, va_rf a2), (3, false, .int a3), (4, false, .int a4), (5, false, .int a5), (6, false, .int a6), (7, false, .int a7), (8, false, .int a8), (9, false, .int a9), (10, false, .int a10)] []) (hf : fX2_bestWorks_p167 D K71 K92 h a0 a1 a2 a3 a4 a5 a6 a7 a8 a9 a10 = some (q, g)) : V p l e R s m args below meth c D n0 s0 (aEnd D below args s h0 (.inr (some (.int q)), g)) h 167 [(0, false, va_rf a0), (1, false, .int a1), (2, false, va_rf a2), (3, false, .int a3), (4, false, .int a4), (5, false, .int a5), (6, false, .int a6), (7, false, .int a7), (8, false, .int a8), (9, false, .int a9), (10, false, .int a10)] [] := by
  have C := X.1
  unfold fX2_bestWorks_p167 at hf
  refine v_iinc (pc := 167) (j := 10) (v := (a10 + 1)) (lv' := [(10, false, .int (a10 + 1)), (0, false, va_rf a0), (1, false, .int a1), (2, false, va_rf a2), (3, false, .int a3), (4, false, .int a4), (5, false, .int a5), (6, false, .int a6), (7, false, .int a7), (8, false, .int a8), (9, false, .int a9)]) C dX2_bestWorks_167 rfl rfl (by decide) rfl ?_
  refine v_goto (pc := 170) (tgt := 92) C dX2_bestWorks_170 rfl ?_
  exact V.sub [1, 2, 3, 4, 5, 6, 7, 8, 9, 10, 0] rfl (k92 _ _ _ _ _ _ _ _ _ _ _ _ _ _ hf)
def fX2_bestWorks_p164 (D : aD) (K71 : aH → (Option Nat) → Int32 → (Option Nat) → Int32 → Int32 → Int32 → Int32 → Option (Int32 × aH)) (K92 : aH → (Option Nat) → Int32 → (Option Nat) → Int32 → Int32 → Int32 → Int32 → Int32 → Int32 → Int32 → Int32 → Option (Int32 × aH)) (h : aH) (a0 : Option Nat) (a1 : Int32) (a2 : Option Nat) (a3 : Int32) (a4 : Int32) (a5 : Int32) (a6 : Int32) (a7 : Int32) (a8 : Int32) (a10 : Int32) (t0 : Int32) (t1 : Int32) : Option (Int32 × aH) :=
  (some ((t0 &&& t1))).bind fun x1 =>
  fX2_bestWorks_p167 D K71 K92 h a0 a1 a2 a3 a4 a5 a6 a7 a8 x1 a10
theorem vX2_bestWorks_p164 {h : aH} {K71 : aH → (Option Nat) → Int32 → (Option Nat) → Int32 → Int32 → Int32 → Int32 → Option (Int32 × aH)} {K92 : aH → (Option Nat) → Int32 → (Option Nat) → Int32 → Int32 → Int32 → Int32 → Int32 → Int32 → Int32 → Int32 → Option (Int32 × aH)} {a0 : Option Nat} {a1 : Int32} {a2 : Option Nat} {a3 : Int32} {a4 : Int32} {a5 : Int32} {a6 : Int32} {a7 : Int32} {a8 : Int32} {a10 : Int32} {t0 : Int32} {t1 : Int32} {q : Int32} {g : aH} (X : aX p l R s m meth c D n0 s0 yX2_bestWorks cX2_bestWorks 8 187 11 (some .int) h0) (k71 : ∀ (h : aH) (a0 : Option Nat) (a1 : Int32) (a2 : Option Nat) (a3 : Int32) (a4 : Int32) (a5 : Int32) (a6 : Int32) (q : Int32) (g : aH), K71 h a0 a1 a2 a3 a4 a5 a6 = some (q, g) → V p l e R s m args below meth c D n0 s0 (aEnd D below args s h0 (.inr (some (.int q)), g)) h 71 [(0, false, va_rf a0), (1, false, .int a1), (2, false, va_rf a2), (3, false, .int a3), (4, false, .int a4), (5, false, .int a5), (6, false, .int a6)] []) (k92 : ∀ (h : aH) (a0 : Option Nat) (a1 : Int32) (a2 : Option Nat) (a3 : Int32) (a4 : Int32) (a5 : Int32) (a6 : Int32) (a7 : Int32) (a8 : Int32) (a9 : Int32) (a10 : Int32) (q : Int32) (g : aH), K92 h a0 a1 a2 a3 a4 a5 a6 a7 a8 a9 a10 = some (q, g) → V p l e R s m args below meth c D n0 s0 (aEnd D below args s h0 (.inr (some (.int q)), g)) h 92 [(0, false, va_rf a0), (1, false, .int a1), (2, false, va_rf a2), (3, false, .int a3), (4, false, .int a4), (5, false, .int a5), (6, false, .int a6), (7, false, .int a7), (8, false, .int a8), (9, false, .int a9), (10, false, .int a10)] []) (hf : fX2_bestWorks_p164 D K71 K92 h a0 a1 a2 a3 a4 a5 a6 a7 a8 a10 t0 t1 = some (q, g)) : V p l e R s m args below meth c D n0 s0 (aEnd D below args s h0 (.inr (some (.int q)), g)) h 164 [(0, false, va_rf a0), (1, false, .int a1), (2, false, va_rf a2), (3, false, .int a3), (4, false, .int a4), (5, false, .int a5), (6, false, .int a6), (7, false, .int a7), (8, false, .int a8), (10, false, .int a10)] [.int t1, .int t0] := by
  have C := X.1
  unfold fX2_bestWorks_p164 at hf
  refine v_iand (pc := 164) C dX2_bestWorks_164 ?_
  obtain ⟨x1, ex1, hf⟩ := oB hf
  refine vst (Option.some.inj ex1) (fun z => .int z :: []) ?_
  refine v_istore (pc := 165) (lv' := [(9, false, .int x1), (0, false, va_rf a0), (1, false, .int a1), (2, false, va_rf a2), (3, false, .int a3), (4, false, .int a4), (5, false, .int a5), (6, false, .int a6), (7, false, .int a7), (8, false, .int a8), (10, false, .int a10)]) C dX2_bestWorks_165 (by decide) rfl ?_
  exact V.sub [1, 2, 3, 4, 5, 6, 7, 8, 9, 0, 10] rfl (vX2_bestWorks_p167 X k71 k92 hf)
def fX2_bestWorks_p216 (D : aD) (K71 : aH → (Option Nat) → Int32 → (Option Nat) → Int32 → Int32 → Int32 → Int32 → Option (Int32 × aH)) (h : aH) (a0 : Option Nat) (a1 : Int32) (a2 : Option Nat) (a3 : Int32) (a4 : Int32) (a5 : Int32) (a6 : Int32) : Option (Int32 × aH) :=
  K71 h a0 a1 a2 a3 a4 a5 (a6 + 1)
theorem vX2_bestWorks_p216 {h : aH} {K71 : aH → (Option Nat) → Int32 → (Option Nat) → Int32 → Int32 → Int32 → Int32 → Option (Int32 × aH)} {a0 : Option Nat} {a1 : Int32} {a2 : Option Nat} {a3 : Int32} {a4 : Int32} {a5 : Int32} {a6 : Int32} {q : Int32} {g : aH} (X : aX p l R s m meth c D n0 s0 yX2_bestWorks cX2_bestWorks 8 187 11 (some .int) h0) (k71 : ∀ (h : aH) (a0 : Option Nat) (a1 : Int32) (a2 : Option Nat) (a3 : Int32) (a4 : Int32) (a5 : Int32) (a6 : Int32) (q : Int32) (g : aH), K71 h a0 a1 a2 a3 a4 a5 a6 = some (q, g) → V p l e R s m args below meth c D n0 s0 (aEnd D below args s h0 (.inr (some (.int q)), g)) h 71 [(0, false, va_rf a0), (1, false, .int a1), (2, false, va_rf a2), (3, false, .int a3), (4, false, .int a4), (5, false, .int a5), (6, false, .int a6)] []) (hf : fX2_bestWorks_p216 D K71 h a0 a1 a2 a3 a4 a5 a6 = some (q, g)) : V p l e R s m args below meth c D n0 s0 (aEnd D below args s h0 (.inr (some (.int q)), g)) h 216 [(0, false, va_rf a0), (1, false, .int a1), (2, false, va_rf a2), (3, false, .int a3), (4, false, .int a4), (5, false, .int a5), (6, false, .int a6)] [] := by
  have C := X.1
  unfold fX2_bestWorks_p216 at hf
  refine v_iinc (pc := 216) (j := 6) (v := (a6 + 1)) (lv' := [(6, false, .int (a6 + 1)), (0, false, va_rf a0), (1, false, .int a1), (2, false, va_rf a2), (3, false, .int a3), (4, false, .int a4), (5, false, .int a5)]) C dX2_bestWorks_216 rfl rfl (by decide) rfl ?_
  refine v_goto (pc := 219) (tgt := 71) C dX2_bestWorks_219 rfl ?_
  exact V.sub [1, 2, 3, 4, 5, 6, 0] rfl (k71 _ _ _ _ _ _ _ _ _ _ hf)
def fX2_bestWorks_p205 (D : aD) (K71 : aH → (Option Nat) → Int32 → (Option Nat) → Int32 → Int32 → Int32 → Int32 → Option (Int32 × aH)) (h : aH) (a0 : Option Nat) (a1 : Int32) (a2 : Option Nat) (a6 : Int32) (a7 : Int32) (a8 : Int32) : Option (Int32 × aH) :=
  fX2_bestWorks_p216 D K71 h a0 a1 a2 a6 a7 a8 a6
theorem vX2_bestWorks_p205 {h : aH} {K71 : aH → (Option Nat) → Int32 → (Option Nat) → Int32 → Int32 → Int32 → Int32 → Option (Int32 × aH)} {a0 : Option Nat} {a1 : Int32} {a2 : Option Nat} {a6 : Int32} {a7 : Int32} {a8 : Int32} {q : Int32} {g : aH} (X : aX p l R s m meth c D n0 s0 yX2_bestWorks cX2_bestWorks 8 187 11 (some .int) h0) (k71 : ∀ (h : aH) (a0 : Option Nat) (a1 : Int32) (a2 : Option Nat) (a3 : Int32) (a4 : Int32) (a5 : Int32) (a6 : Int32) (q : Int32) (g : aH), K71 h a0 a1 a2 a3 a4 a5 a6 = some (q, g) → V p l e R s m args below meth c D n0 s0 (aEnd D below args s h0 (.inr (some (.int q)), g)) h 71 [(0, false, va_rf a0), (1, false, .int a1), (2, false, va_rf a2), (3, false, .int a3), (4, false, .int a4), (5, false, .int a5), (6, false, .int a6)] []) (hf : fX2_bestWorks_p205 D K71 h a0 a1 a2 a6 a7 a8 = some (q, g)) : V p l e R s m args below meth c D n0 s0 (aEnd D below args s h0 (.inr (some (.int q)), g)) h 205 [(0, false, va_rf a0), (1, false, .int a1), (2, false, va_rf a2), (6, false, .int a6), (7, false, .int a7), (8, false, .int a8)] [] := by
  have C := X.1
  unfold fX2_bestWorks_p205 at hf
  refine v_iload (pc := 205) (j := 3) C dX2_bestWorks_205 rfl ?_
  refine v_istore_n (pc := 207) (lv' := [(3, false, .int a6), (0, false, va_rf a0), (1, false, .int a1), (2, false, va_rf a2), (6, false, .int a6), (7, false, .int a7), (8, false, .int a8)]) C dX2_bestWorks_207 rfl (by decide) rfl ?_
  refine v_iload (pc := 208) (j := 5) C dX2_bestWorks_208 rfl ?_
  refine v_istore (pc := 210) (lv' := [(4, false, .int a7), (3, false, .int a6), (0, false, va_rf a0), (1, false, .int a1), (2, false, va_rf a2), (6, false, .int a6), (7, false, .int a7), (8, false, .int a8)]) C dX2_bestWorks_210 (by decide) rfl ?_
  refine v_iload (pc := 212) (j := 7) C dX2_bestWorks_212 rfl ?_
  refine v_istore (pc := 214) (lv' := [(5, false, .int a8), (4, false, .int a7), (3, false, .int a6), (0, false, va_rf a0), (1, false, .int a1), (2, false, va_rf a2), (6, false, .int a6), (7, false, .int a7), (8, false, .int a8)]) C dX2_bestWorks_214 (by decide) rfl ?_
  exact V.sub [3, 4, 5, 2, 1, 0, 6] rfl (vX2_bestWorks_p216 X k71 hf)
def fX2_bestWorks_p173 (D : aD) (K71 : aH → (Option Nat) → Int32 → (Option Nat) → Int32 → Int32 → Int32 → Int32 → Option (Int32 × aH)) (h : aH) (a0 : Option Nat) (a1 : Int32) (a2 : Option Nat) (a3 : Int32) (a4 : Int32) (a5 : Int32) (a6 : Int32) (a7 : Int32) (a8 : Int32) (a9 : Int32) : Option (Int32 × aH) :=
  if a9 = 0 then
  (fX2_bestWorks_p216 D K71 h a0 a1 a2 a3 a4 a5 a6)
  else
  (if a1 < a8 then
  (fX2_bestWorks_p216 D K71 h a0 a1 a2 a3 a4 a5 a6)
  else
  (if a4 < a7 then
  (fX2_bestWorks_p205 D K71 h a0 a1 a2 a6 a7 a8)
  else
  (if a7 = a4 then
  (if a5 ≤ a8 then
  (fX2_bestWorks_p216 D K71 h a0 a1 a2 a3 a4 a5 a6)
  else
  (fX2_bestWorks_p205 D K71 h a0 a1 a2 a6 a7 a8))
  else
  (fX2_bestWorks_p216 D K71 h a0 a1 a2 a3 a4 a5 a6))))
theorem vX2_bestWorks_p173 {h : aH} {K71 : aH → (Option Nat) → Int32 → (Option Nat) → Int32 → Int32 → Int32 → Int32 → Option (Int32 × aH)} {a0 : Option Nat} {a1 : Int32} {a2 : Option Nat} {a3 : Int32} {a4 : Int32} {a5 : Int32} {a6 : Int32} {a7 : Int32} {a8 : Int32} {a9 : Int32} {q : Int32} {g : aH} (X : aX p l R s m meth c D n0 s0 yX2_bestWorks cX2_bestWorks 8 187 11 (some .int) h0) (k71 : ∀ (h : aH) (a0 : Option Nat) (a1 : Int32) (a2 : Option Nat) (a3 : Int32) (a4 : Int32) (a5 : Int32) (a6 : Int32) (q : Int32) (g : aH), K71 h a0 a1 a2 a3 a4 a5 a6 = some (q, g) → V p l e R s m args below meth c D n0 s0 (aEnd D below args s h0 (.inr (some (.int q)), g)) h 71 [(0, false, va_rf a0), (1, false, .int a1), (2, false, va_rf a2), (3, false, .int a3), (4, false, .int a4), (5, false, .int a5), (6, false, .int a6)] []) (hf : fX2_bestWorks_p173 D K71 h a0 a1 a2 a3 a4 a5 a6 a7 a8 a9 = some (q, g)) : V p l e R s m args below meth c D n0 s0 (aEnd D below args s h0 (.inr (some (.int q)), g)) h 173 [(0, false, va_rf a0), (1, false, .int a1), (2, false, va_rf a2), (3, false, .int a3), (4, false, .int a4), (5, false, .int a5), (6, false, .int a6), (7, false, .int a7), (8, false, .int a8), (9, false, .int a9)] [] := by
  have C := X.1
  unfold fX2_bestWorks_p173 at hf
  refine v_iload (pc := 173) (j := 9) C dX2_bestWorks_173 rfl ?_
  refine v_if_eq (pc := 175) (tgt := 216) C dX2_bestWorks_175 rfl (fun hc => ?_) (fun hc => ?_)
  · rw [if_pos hc] at hf
    exact V.sub [0, 1, 2, 3, 4, 5, 6] rfl (vX2_bestWorks_p216 X k71 hf)
  · rw [if_neg hc] at hf
    refine v_iload (pc := 178) (j := 8) C dX2_bestWorks_178 rfl ?_
    refine v_iload_n (pc := 180) (j := 1) C dX2_bestWorks_180 rfl rfl ?_
    refine v_icmp_gt (pc := 181) (tgt := 216) C dX2_bestWorks_181 rfl (fun hc => ?_) (fun hc => ?_)
    · rw [if_pos hc] at hf
      exact V.sub [0, 1, 2, 3, 4, 5, 6] rfl (vX2_bestWorks_p216 X k71 hf)
    · rw [if_neg hc] at hf
      refine v_iload (pc := 184) (j := 7) C dX2_bestWorks_184 rfl ?_
      refine v_iload (pc := 186) (j := 4) C dX2_bestWorks_186 rfl ?_
      refine v_icmp_gt (pc := 188) (tgt := 205) C dX2_bestWorks_188 rfl (fun hc => ?_) (fun hc => ?_)
      · rw [if_pos hc] at hf
        exact V.sub [0, 1, 2, 6, 7, 8] rfl (vX2_bestWorks_p205 X k71 hf)
      · rw [if_neg hc] at hf
        refine v_iload (pc := 191) (j := 7) C dX2_bestWorks_191 rfl ?_
        refine v_iload (pc := 193) (j := 4) C dX2_bestWorks_193 rfl ?_
        refine v_icmp_ne (pc := 195) (tgt := 216) C dX2_bestWorks_195 rfl (fun hc => ?_) (fun hc => ?_)
        · rw [if_neg hc] at hf
          exact V.sub [0, 1, 2, 3, 4, 5, 6] rfl (vX2_bestWorks_p216 X k71 hf)
        · rw [if_pos (Decidable.of_not_not hc)] at hf
          refine v_iload (pc := 198) (j := 8) C dX2_bestWorks_198 rfl ?_
          refine v_iload (pc := 200) (j := 5) C dX2_bestWorks_200 rfl ?_
          refine v_icmp_ge (pc := 202) (tgt := 216) C dX2_bestWorks_202 rfl (fun hc => ?_) (fun hc => ?_)
          · rw [if_pos hc] at hf
            exact V.sub [0, 1, 2, 3, 4, 5, 6] rfl (vX2_bestWorks_p216 X k71 hf)
          · rw [if_neg hc] at hf
            exact V.sub [0, 1, 2, 6, 7, 8] rfl (vX2_bestWorks_p205 X k71 hf)
def fX2_bestWorks_p92 (D : aD) (K71 : aH → (Option Nat) → Int32 → (Option Nat) → Int32 → Int32 → Int32 → Int32 → Option (Int32 × aH)) : Nat → aH → (Option Nat) → Int32 → (Option Nat) → Int32 → Int32 → Int32 → Int32 → Int32 → Int32 → Int32 → Int32 → Option (Int32 × aH)
  | 0, _, _, _, _, _, _, _, _, _, _, _, _ => none
  | n + 1, h, a0, a1, a2, a3, a4, a5, a6, a7, a8, a9, a10 =>
  (eN h a2).bind fun x1 =>
  if x1 ≤ a10 then
  (fX2_bestWorks_p173 D K71 h a0 a1 a2 a3 a4 a5 a6 a7 a8 a9)
  else
  (if ((a6 >>> (a10 &&& 31)) &&& (1 : Int32)) = 0 then
  (fX2_bestWorks_p167 D K71 (fX2_bestWorks_p92 D K71 n) h a0 a1 a2 a3 a4 a5 a6 a7 a8 a9 a10)
  else
  ((eI h a2 a10).bind fun x2 =>
  (some ((a7 + x2))).bind fun x3 =>
  (gR h 1 19 a0).bind fun x4 =>
  (aIs h 15 x4).bind fun _ =>
  (fJ2_get D h x4 a10).bind fun x6 =>
  (aCast h [100] x6).bind fun _ =>
  (eI h x6 (1 : Int32)).bind fun x9 =>
  (some ((a8 + x9))).bind fun x10 =>
  (gR h 1 19 a0).bind fun x11 =>
  (aIs h 15 x11).bind fun _ =>
  (fJ2_get D h x11 a10).bind fun x13 =>
  (aCast h [100] x13).bind fun _ =>
  (eI h x13 (3 : Int32)).bind fun x16 =>
  fX2_bestWorks_p164 D K71 (fX2_bestWorks_p92 D K71 n) h a0 a1 a2 a3 a4 a5 a6 x3 x10 a10 a9 (if x16 = 0 then (1 : Int32) else (0 : Int32))))
theorem vX2_bestWorks_p92 {K71 : aH → (Option Nat) → Int32 → (Option Nat) → Int32 → Int32 → Int32 → Int32 → Option (Int32 × aH)} (X : aX p l R s m meth c D n0 s0 yX2_bestWorks cX2_bestWorks 8 187 11 (some .int) h0) (k71 : ∀ (h : aH) (a0 : Option Nat) (a1 : Int32) (a2 : Option Nat) (a3 : Int32) (a4 : Int32) (a5 : Int32) (a6 : Int32) (q : Int32) (g : aH), K71 h a0 a1 a2 a3 a4 a5 a6 = some (q, g) → V p l e R s m args below meth c D n0 s0 (aEnd D below args s h0 (.inr (some (.int q)), g)) h 71 [(0, false, va_rf a0), (1, false, .int a1), (2, false, va_rf a2), (3, false, .int a3), (4, false, .int a4), (5, false, .int a5), (6, false, .int a6)] []) : ∀ (n : Nat) (h : aH) (a0 : Option Nat) (a1 : Int32) (a2 : Option Nat) (a3 : Int32) (a4 : Int32) (a5 : Int32) (a6 : Int32) (a7 : Int32) (a8 : Int32) (a9 : Int32) (a10 : Int32) (q : Int32) (g : aH), fX2_bestWorks_p92 D K71 n h a0 a1 a2 a3 a4 a5 a6 a7 a8 a9 a10 = some (q, g) → V p l e R s m args below meth c D n0 s0 (aEnd D below args s h0 (.inr (some (.int q)), g)) h 92 [(0, false, va_rf a0), (1, false, .int a1), (2, false, va_rf a2), (3, false, .int a3), (4, false, .int a4), (5, false, .int a5), (6, false, .int a6), (7, false, .int a7), (8, false, .int a8), (9, false, .int a9), (10, false, .int a10)] [] := by
  have C := X.1
  intro n
  induction n with
  | zero =>
    intro _ _ _ _ _ _ _ _ _ _ _ _ _ _ hf
    rw [fX2_bestWorks_p92] at hf
    cases hf
  | succ n ih =>
    intro h a0 a1 a2 a3 a4 a5 a6 a7 a8 a9 a10 q g hf
    rw [fX2_bestWorks_p92] at hf
    refine v_iload (pc := 92) (j := 10) C dX2_bestWorks_92 rfl ?_
    refine v_aload_n (pc := 94) (j := 2) C dX2_bestWorks_94 rfl rfl ?_
    obtain ⟨x1, ex1, hf⟩ := oB hf
    refine v_alen (pc := 95) C ex1 dX2_bestWorks_95 ?_
    refine v_icmp_ge (pc := 96) (tgt := 173) C dX2_bestWorks_96 rfl (fun hc => ?_) (fun hc => ?_)
    · rw [if_pos hc] at hf
      exact V.sub [0, 1, 2, 3, 4, 5, 6, 7, 8, 9] rfl (vX2_bestWorks_p173 X k71 hf)
    · rw [if_neg hc] at hf
      refine v_iload (pc := 99) (j := 6) C dX2_bestWorks_99 rfl ?_
      refine v_iload (pc := 101) (j := 10) C dX2_bestWorks_101 rfl ?_
      refine v_ishr (pc := 103) C dX2_bestWorks_103 ?_
      refine v_iconst (pc := 104) (v := (1 : Int32)) C dX2_bestWorks_104 rfl ?_
      refine v_iand (pc := 105) C dX2_bestWorks_105 ?_
      refine v_if_ne (pc := 106) (tgt := 112) C dX2_bestWorks_106 rfl (fun hc => ?_) (fun hc => ?_)
      · rw [if_neg hc] at hf
        refine v_iload (pc := 112) (j := 7) C dX2_bestWorks_112 rfl ?_
        refine v_aload_n (pc := 114) (j := 2) C dX2_bestWorks_114 rfl rfl ?_
        refine v_iload (pc := 115) (j := 10) C dX2_bestWorks_115 rfl ?_
        obtain ⟨x2, ex2, hf⟩ := oB hf
        refine v_iaload (pc := 117) C ex2 dX2_bestWorks_117 ?_
        refine v_iadd (pc := 118) C dX2_bestWorks_118 ?_
        obtain ⟨x3, ex3, hf⟩ := oB hf
        refine vst (Option.some.inj ex3) (fun z => .int z :: []) ?_
        refine v_istore (pc := 119) (lv' := [(7, false, .int x3), (0, false, va_rf a0), (1, false, .int a1), (2, false, va_rf a2), (3, false, .int a3), (4, false, .int a4), (5, false, .int a5), (6, false, .int a6), (8, false, .int a8), (9, false, .int a9), (10, false, .int a10)]) C dX2_bestWorks_119 (by decide) rfl ?_
        refine v_iload (pc := 121) (j := 8) C dX2_bestWorks_121 rfl ?_
        refine v_aload_n (pc := 123) (j := 1) C dX2_bestWorks_123 rfl rfl ?_
        obtain ⟨x4, ex4, hf⟩ := oB hf
        refine v_getF (pc := 124) C lk_X2_66 (gR_eq ex4) dX2_bestWorks_124 ?_
        refine v_iload (pc := 127) (j := 10) C dX2_bestWorks_127 rfl ?_
        obtain ⟨b5, eb5, hf⟩ := oB hf
        obtain ⟨rb5, _, kb5⟩ := aIs_eq eb5
        obtain ⟨x6, ex6, hf⟩ := oB hf
        refine v_call (pc := 129) (d_V (pc := 129) C (As := [.int a10]) (rest := [.int a8]) rb5 kb5 nt_15 q2520 yi_J2_get_java_util_ArrayList yk_J2_get rfl (by decide) (by decide) (Nat.le_trans (aw_i aw_0) (by decide)) rfl (mJ2_get C.st ex6) dX2_bestWorks_129) ?_
        obtain ⟨_, e8, hf⟩ := oB hf
        refine v_cast (pc := 132) C q2521 ct__I e8 dX2_bestWorks_132 ?_
        refine v_iconst (pc := 135) (v := (1 : Int32)) C dX2_bestWorks_135 rfl ?_
        obtain ⟨x9, ex9, hf⟩ := oB hf
        refine v_iaload (pc := 136) C ex9 dX2_bestWorks_136 ?_
        refine v_iadd (pc := 137) C dX2_bestWorks_137 ?_
        obtain ⟨x10, ex10, hf⟩ := oB hf
        refine vst (Option.some.inj ex10) (fun z => .int z :: []) ?_
        refine v_istore (pc := 138) (lv' := [(8, false, .int x10), (7, false, .int x3), (0, false, va_rf a0), (1, false, .int a1), (2, false, va_rf a2), (3, false, .int a3), (4, false, .int a4), (5, false, .int a5), (6, false, .int a6), (9, false, .int a9), (10, false, .int a10)]) C dX2_bestWorks_138 (by decide) rfl ?_
        refine v_iload (pc := 140) (j := 9) C dX2_bestWorks_140 rfl ?_
        refine v_aload_n (pc := 142) (j := 2) C dX2_bestWorks_142 rfl rfl ?_
        obtain ⟨x11, ex11, hf⟩ := oB hf
        refine v_getF (pc := 143) C lk_X2_66 (gR_eq ex11) dX2_bestWorks_143 ?_
        refine v_iload (pc := 146) (j := 10) C dX2_bestWorks_146 rfl ?_
        obtain ⟨b12, eb12, hf⟩ := oB hf
        obtain ⟨rb12, _, kb12⟩ := aIs_eq eb12
        obtain ⟨x13, ex13, hf⟩ := oB hf
        refine v_call (pc := 148) (d_V (pc := 148) C (As := [.int a10]) (rest := [.int a9]) rb12 kb12 nt_15 q2520 yi_J2_get_java_util_ArrayList yk_J2_get rfl (by decide) (by decide) (Nat.le_trans (aw_i aw_0) (by decide)) rfl (mJ2_get C.st ex13) dX2_bestWorks_148) ?_
        obtain ⟨_, e15, hf⟩ := oB hf
        refine v_cast (pc := 151) C q2521 ct__I e15 dX2_bestWorks_151 ?_
        refine v_iconst (pc := 154) (v := (3 : Int32)) C dX2_bestWorks_154 rfl ?_
        obtain ⟨x16, ex16, hf⟩ := oB hf
        refine v_iaload (pc := 155) C ex16 dX2_bestWorks_155 ?_
        refine v_if_ne (pc := 156) (tgt := 163) C dX2_bestWorks_156 rfl (fun hc => ?_) (fun hc => ?_)
        · simp only [if_neg hc] at hf
          refine v_iconst (pc := 163) (v := (0 : Int32)) C dX2_bestWorks_163 rfl ?_
          exact V.sub [2, 3, 4, 5, 6, 7, 8, 1, 0, 10] rfl (vX2_bestWorks_p164 X k71 ih hf)
        · simp only [if_pos (Decidable.of_not_not hc)] at hf
          refine v_iconst (pc := 159) (v := (1 : Int32)) C dX2_bestWorks_159 rfl ?_
          refine v_goto (pc := 160) (tgt := 164) C dX2_bestWorks_160 rfl ?_
          exact V.sub [2, 3, 4, 5, 6, 7, 8, 1, 0, 10] rfl (vX2_bestWorks_p164 X k71 ih hf)
      · rw [if_pos (Decidable.of_not_not hc)] at hf
        refine v_goto (pc := 109) (tgt := 167) C dX2_bestWorks_109 rfl ?_
        exact V.sub [0, 1, 2, 3, 4, 5, 6, 7, 8, 9, 10] rfl (vX2_bestWorks_p167 X k71 ih hf)
def fX2_bestWorks_p71 (D : aD) : Nat → aH → (Option Nat) → Int32 → (Option Nat) → Int32 → Int32 → Int32 → Int32 → Option (Int32 × aH)
  | 0, _, _, _, _, _, _, _, _ => none
  | n + 1, h, a0, a1, a2, a3, a4, a5, a6 =>
  (eN h a2).bind fun x1 =>
  if ((1 : Int32) <<< (x1 &&& 31)) ≤ a6 then
  (some (a3, h))
  else
  (fX2_bestWorks_p92 D (fX2_bestWorks_p71 D n) FU h a0 a1 a2 a3 a4 a5 a6 (0 : Int32) (0 : Int32) (1 : Int32) (0 : Int32))
theorem vX2_bestWorks_p71 (X : aX p l R s m meth c D n0 s0 yX2_bestWorks cX2_bestWorks 8 187 11 (some .int) h0) : ∀ (n : Nat) (h : aH) (a0 : Option Nat) (a1 : Int32) (a2 : Option Nat) (a3 : Int32) (a4 : Int32) (a5 : Int32) (a6 : Int32) (q : Int32) (g : aH), fX2_bestWorks_p71 D n h a0 a1 a2 a3 a4 a5 a6 = some (q, g) → V p l e R s m args below meth c D n0 s0 (aEnd D below args s h0 (.inr (some (.int q)), g)) h 71 [(0, false, va_rf a0), (1, false, .int a1), (2, false, va_rf a2), (3, false, .int a3), (4, false, .int a4), (5, false, .int a5), (6, false, .int a6)] [] := by
  have C := X.1
  intro n
  induction n with
  | zero =>
    intro _ _ _ _ _ _ _ _ _ _ hf
    rw [fX2_bestWorks_p71] at hf
    cases hf
  | succ n ih =>
    intro h a0 a1 a2 a3 a4 a5 a6 q g hf
    rw [fX2_bestWorks_p71] at hf
    refine v_iload (pc := 71) (j := 6) C dX2_bestWorks_71 rfl ?_
    refine v_iconst (pc := 73) (v := (1 : Int32)) C dX2_bestWorks_73 rfl ?_
    refine v_aload_n (pc := 74) (j := 2) C dX2_bestWorks_74 rfl rfl ?_
    obtain ⟨x1, ex1, hf⟩ := oB hf
    refine v_alen (pc := 75) C ex1 dX2_bestWorks_75 ?_
    refine v_ishl (pc := 76) C dX2_bestWorks_76 ?_
    refine v_icmp_ge (pc := 77) (tgt := 222) C dX2_bestWorks_77 rfl (fun hc => ?_) (fun hc => ?_)
    · rw [if_pos hc] at hf
      refine v_iload_n (pc := 222) (j := 3) C dX2_bestWorks_222 rfl rfl ?_
      cases hf
      exact v_ireturn (pc := 223) C X.2.1 X.2.2.1 X.2.2.2.1 rfl dX2_bestWorks_223
    · rw [if_neg hc] at hf
      refine v_iconst (pc := 80) (v := (0 : Int32)) C dX2_bestWorks_80 rfl ?_
      refine v_istore (pc := 81) (lv' := [(7, false, .int (0 : Int32)), (0, false, va_rf a0), (1, false, .int a1), (2, false, va_rf a2), (3, false, .int a3), (4, false, .int a4), (5, false, .int a5), (6, false, .int a6)]) C dX2_bestWorks_81 (by decide) rfl ?_
      refine v_iconst (pc := 83) (v := (0 : Int32)) C dX2_bestWorks_83 rfl ?_
      refine v_istore (pc := 84) (lv' := [(8, false, .int (0 : Int32)), (7, false, .int (0 : Int32)), (0, false, va_rf a0), (1, false, .int a1), (2, false, va_rf a2), (3, false, .int a3), (4, false, .int a4), (5, false, .int a5), (6, false, .int a6)]) C dX2_bestWorks_84 (by decide) rfl ?_
      refine v_iconst (pc := 86) (v := (1 : Int32)) C dX2_bestWorks_86 rfl ?_
      refine v_istore (pc := 87) (lv' := [(9, false, .int (1 : Int32)), (8, false, .int (0 : Int32)), (7, false, .int (0 : Int32)), (0, false, va_rf a0), (1, false, .int a1), (2, false, va_rf a2), (3, false, .int a3), (4, false, .int a4), (5, false, .int a5), (6, false, .int a6)]) C dX2_bestWorks_87 (by decide) rfl ?_
      refine v_iconst (pc := 89) (v := (0 : Int32)) C dX2_bestWorks_89 rfl ?_
      refine v_istore (pc := 90) (lv' := [(10, false, .int (0 : Int32)), (9, false, .int (1 : Int32)), (8, false, .int (0 : Int32)), (7, false, .int (0 : Int32)), (0, false, va_rf a0), (1, false, .int a1), (2, false, va_rf a2), (3, false, .int a3), (4, false, .int a4), (5, false, .int a5), (6, false, .int a6)]) C dX2_bestWorks_90 (by decide) rfl ?_
      exact V.sub [4, 5, 6, 7, 8, 9, 10, 3, 2, 1, 0] rfl (vX2_bestWorks_p92 X ih _ _ _ _ _ _ _ _ _ _ _ _ _ _ _ hf)
def fX2_bestWorks_p60 (D : aD) (h : aH) (a0 : Option Nat) (a1 : Int32) (a2 : Option Nat) : Option (Int32 × aH) :=
  fX2_bestWorks_p71 D FU h a0 a1 a2 (0 : Int32) (0 : Int32) (0 : Int32) (1 : Int32)
theorem vX2_bestWorks_p60 {h : aH} {a0 : Option Nat} {a1 : Int32} {a2 : Option Nat} {q : Int32} {g : aH} (X : aX p l R s m meth c D n0 s0 yX2_bestWorks cX2_bestWorks 8 187 11 (some .int) h0) (hf : fX2_bestWorks_p60 D h a0 a1 a2 = some (q, g)) : V p l e R s m args below meth c D n0 s0 (aEnd D below args s h0 (.inr (some (.int q)), g)) h 60 [(0, false, va_rf a0), (1, false, .int a1), (2, false, va_rf a2)] [] := by
  have C := X.1
  unfold fX2_bestWorks_p60 at hf
  refine v_iconst (pc := 60) (v := (0 : Int32)) C dX2_bestWorks_60 rfl ?_
  refine v_istore_n (pc := 61) (lv' := [(3, false, .int (0 : Int32)), (0, false, va_rf a0), (1, false, .int a1), (2, false, va_rf a2)]) C dX2_bestWorks_61 rfl (by decide) rfl ?_
  refine v_iconst (pc := 62) (v := (0 : Int32)) C dX2_bestWorks_62 rfl ?_
  refine v_istore (pc := 63) (lv' := [(4, false, .int (0 : Int32)), (3, false, .int (0 : Int32)), (0, false, va_rf a0), (1, false, .int a1), (2, false, va_rf a2)]) C dX2_bestWorks_63 (by decide) rfl ?_
  refine v_iconst (pc := 65) (v := (0 : Int32)) C dX2_bestWorks_65 rfl ?_
  refine v_istore (pc := 66) (lv' := [(5, false, .int (0 : Int32)), (4, false, .int (0 : Int32)), (3, false, .int (0 : Int32)), (0, false, va_rf a0), (1, false, .int a1), (2, false, va_rf a2)]) C dX2_bestWorks_66 (by decide) rfl ?_
  refine v_iconst (pc := 68) (v := (1 : Int32)) C dX2_bestWorks_68 rfl ?_
  refine v_istore (pc := 69) (lv' := [(6, false, .int (1 : Int32)), (5, false, .int (0 : Int32)), (4, false, .int (0 : Int32)), (3, false, .int (0 : Int32)), (0, false, va_rf a0), (1, false, .int a1), (2, false, va_rf a2)]) C dX2_bestWorks_69 (by decide) rfl ?_
  exact V.sub [4, 5, 6, 3, 2, 1, 0] rfl (vX2_bestWorks_p71 X _ _ _ _ _ _ _ _ _ _ _ hf)
def fX2_bestWorks_p12 (D : aD) : Nat → aH → (Option Nat) → Int32 → (Option Nat) → Int32 → Option (Int32 × aH)
  | 0, _, _, _, _, _ => none
  | n + 1, h, a0, a1, a2, a3 =>
  (eN h a2).bind fun x1 =>
  if x1 ≤ a3 then
  (fX2_bestWorks_p60 D h a0 a1 a2)
  else
  ((gR h 1 19 a0).bind fun x2 =>
  (aIs h 15 x2).bind fun _ =>
  (fJ2_get D h x2 a3).bind fun x4 =>
  (aCast h [100] x4).bind fun _ =>
  (eI h x4 (2 : Int32)).bind fun x7 =>
  (gR h 1 19 a0).bind fun x8 =>
  (aIs h 15 x8).bind fun _ =>
  (fJ2_get D h x8 a3).bind fun x10 =>
  (aCast h [100] x10).bind fun _ =>
  (eI h x10 (0 : Int32)).bind fun x13 =>
  (aIs h 1 a0).bind fun _ =>
  bnd2 (fX2_genuineOn D h a0 x13) fun x15 h16 =>
  (sF D h16 100 a2 a3 (.int (x7 * ((1 : Int32) + x15)))).bind fun h17 =>
  fX2_bestWorks_p12 D n h17 a0 a1 a2 (a3 + 1))
theorem vX2_bestWorks_p12 (X : aX p l R s m meth c D n0 s0 yX2_bestWorks cX2_bestWorks 8 187 11 (some .int) h0) : ∀ (n : Nat) (h : aH) (a0 : Option Nat) (a1 : Int32) (a2 : Option Nat) (a3 : Int32) (q : Int32) (g : aH), fX2_bestWorks_p12 D n h a0 a1 a2 a3 = some (q, g) → V p l e R s m args below meth c D n0 s0 (aEnd D below args s h0 (.inr (some (.int q)), g)) h 12 [(0, false, va_rf a0), (1, false, .int a1), (2, false, va_rf a2), (3, false, .int a3)] [] := by
  have C := X.1
  intro n
  induction n with
  | zero =>
    intro _ _ _ _ _ _ _ hf
    rw [fX2_bestWorks_p12] at hf
    cases hf
  | succ n ih =>
    intro h a0 a1 a2 a3 q g hf
    rw [fX2_bestWorks_p12] at hf
    refine v_iload_n (pc := 12) (j := 3) C dX2_bestWorks_12 rfl rfl ?_
    refine v_aload_n (pc := 13) (j := 2) C dX2_bestWorks_13 rfl rfl ?_
    obtain ⟨x1, ex1, hf⟩ := oB hf
    refine v_alen (pc := 14) C ex1 dX2_bestWorks_14 ?_
    refine v_icmp_ge (pc := 15) (tgt := 60) C dX2_bestWorks_15 rfl (fun hc => ?_) (fun hc => ?_)
    · rw [if_pos hc] at hf
      exact V.sub [0, 1, 2] rfl (vX2_bestWorks_p60 X hf)
    · rw [if_neg hc] at hf
      refine v_aload_n (pc := 18) (j := 2) C dX2_bestWorks_18 rfl rfl ?_
      refine v_iload_n (pc := 19) (j := 3) C dX2_bestWorks_19 rfl rfl ?_
      refine v_aload_n (pc := 20) (j := 0) C dX2_bestWorks_20 rfl rfl ?_
      obtain ⟨x2, ex2, hf⟩ := oB hf
      refine v_getF (pc := 21) C lk_X2_66 (gR_eq ex2) dX2_bestWorks_21 ?_
      refine v_iload_n (pc := 24) (j := 3) C dX2_bestWorks_24 rfl rfl ?_
      obtain ⟨b3, eb3, hf⟩ := oB hf
      obtain ⟨rb3, _, kb3⟩ := aIs_eq eb3
      obtain ⟨x4, ex4, hf⟩ := oB hf
      refine v_call (pc := 25) (d_V (pc := 25) C (As := [.int a3]) (rest := [.int a3, va_rf a2]) rb3 kb3 nt_15 q2520 yi_J2_get_java_util_ArrayList yk_J2_get rfl (by decide) (by decide) (Nat.le_trans (aw_i (aw_r aw_0)) (by decide)) rfl (mJ2_get C.st ex4) dX2_bestWorks_25) ?_
      obtain ⟨_, e6, hf⟩ := oB hf
      refine v_cast (pc := 28) C q2521 ct__I e6 dX2_bestWorks_28 ?_
      refine v_iconst (pc := 31) (v := (2 : Int32)) C dX2_bestWorks_31 rfl ?_
      obtain ⟨x7, ex7, hf⟩ := oB hf
      refine v_iaload (pc := 32) C ex7 dX2_bestWorks_32 ?_
      refine v_iconst (pc := 33) (v := (1 : Int32)) C dX2_bestWorks_33 rfl ?_
      refine v_aload_n (pc := 34) (j := 0) C dX2_bestWorks_34 rfl rfl ?_
      refine v_aload_n (pc := 35) (j := 0) C dX2_bestWorks_35 rfl rfl ?_
      obtain ⟨x8, ex8, hf⟩ := oB hf
      refine v_getF (pc := 36) C lk_X2_66 (gR_eq ex8) dX2_bestWorks_36 ?_
      refine v_iload_n (pc := 39) (j := 3) C dX2_bestWorks_39 rfl rfl ?_
      obtain ⟨b9, eb9, hf⟩ := oB hf
      obtain ⟨rb9, _, kb9⟩ := aIs_eq eb9
      obtain ⟨x10, ex10, hf⟩ := oB hf
      refine v_call (pc := 40) (d_V (pc := 40) C (As := [.int a3]) (rest := [va_rf a0, .int (1 : Int32), .int x7, .int a3, va_rf a2]) rb9 kb9 nt_15 q2520 yi_J2_get_java_util_ArrayList yk_J2_get rfl (by decide) (by decide) (Nat.le_trans (aw_r (aw_i (aw_i (aw_i (aw_r aw_0))))) (by decide)) rfl (mJ2_get C.st ex10) dX2_bestWorks_40) ?_
      obtain ⟨_, e12, hf⟩ := oB hf
      refine v_cast (pc := 43) C q2521 ct__I e12 dX2_bestWorks_43 ?_
      refine v_iconst (pc := 46) (v := (0 : Int32)) C dX2_bestWorks_46 rfl ?_
      obtain ⟨x13, ex13, hf⟩ := oB hf
      refine v_iaload (pc := 47) C ex13 dX2_bestWorks_47 ?_
      obtain ⟨b14, eb14, hf⟩ := oB hf
      obtain ⟨rb14, _, kb14⟩ := aIs_eq eb14
      obtain ⟨x15, h16, ex15, hf⟩ := bnd2_eq hf
      refine v_call (pc := 48) (d_V (pc := 48) C (As := [.int x13]) (rest := [.int (1 : Int32), .int x7, .int a3, va_rf a2]) rb14 kb14 nt_1 q2874 yi_X2_genuineOn_FigureSurveyModel yk_X2_genuineOn rfl (by decide) (by decide) (Nat.le_trans (aw_i (aw_i (aw_i (aw_r aw_0)))) (by decide)) rfl (mX2_genuineOn C.st ex15) dX2_bestWorks_48) ?_
      refine v_iadd (pc := 51) C dX2_bestWorks_51 ?_
      refine v_imul (pc := 52) C dX2_bestWorks_52 ?_
      obtain ⟨h17, eh17, hf⟩ := oB hf
      refine v_iastore (pc := 53) C eh17 dX2_bestWorks_53 ?_
      refine v_iinc (pc := 54) (j := 3) (v := (a3 + 1)) (lv' := [(3, false, .int (a3 + 1)), (0, false, va_rf a0), (1, false, .int a1), (2, false, va_rf a2)]) C dX2_bestWorks_54 rfl rfl (by decide) rfl ?_
      refine v_goto (pc := 57) (tgt := 12) C dX2_bestWorks_57 rfl ?_
      exact V.sub [1, 2, 3, 0] rfl (ih _ _ _ _ _ _ _ hf)
def fX2_bestWorks (D : aD) (h : aH) (a0 : Option Nat) (a1 : Int32) : Option (Int32 × aH) :=
  (gR h 1 19 a0).bind fun x1 =>
  (aIs h 15 x1).bind fun _ =>
  (fJ2_size D h x1).bind fun x3 =>
  (aMkA D h 100 x3 (.int 0)).bind fun h5 =>
  fX2_bestWorks_p12 D FU h5 a0 a1 (some h.1) (0 : Int32)
theorem vX2_bestWorks {h : aH} {a0 : Option Nat} {a1 : Int32} {q : Int32} {g : aH} (X : aX p l R s m meth c D n0 s0 yX2_bestWorks cX2_bestWorks 8 187 11 (some .int) h0) (hf : fX2_bestWorks D h a0 a1 = some (q, g)) : V p l e R s m args below meth c D n0 s0 (aEnd D below args s h0 (.inr (some (.int q)), g)) h 0 [(0, false, va_rf a0), (1, false, .int a1)] [] := by
  have C := X.1
  unfold fX2_bestWorks at hf
  refine v_aload_n (pc := 0) (j := 0) C dX2_bestWorks_0 rfl rfl ?_
  obtain ⟨x1, ex1, hf⟩ := oB hf
  refine v_getF (pc := 1) C lk_X2_66 (gR_eq ex1) dX2_bestWorks_1 ?_
  obtain ⟨b2, eb2, hf⟩ := oB hf
  obtain ⟨rb2, _, kb2⟩ := aIs_eq eb2
  obtain ⟨x3, ex3, hf⟩ := oB hf
  refine v_call (pc := 4) (d_V (pc := 4) C (As := []) (rest := []) rb2 kb2 nt_15 q2502 yi_J2_size_java_util_ArrayList yk_J2_size rfl (by decide) (by decide) (Nat.le_trans aw_0 (by decide)) rfl (mJ2_size C.st ex3) dX2_bestWorks_4) ?_
  obtain ⟨h5, eh5, hf⟩ := oB hf
  refine v_newarray (pc := 7) (t := 100) (v := .int 0) C q169 rfl rfl (by decide) (by decide) rfl eh5 dX2_bestWorks_7 ?_
  refine v_astore_n (pc := 9) (lv' := [(2, false, va_rf (some h.1)), (0, false, va_rf a0), (1, false, .int a1)]) C dX2_bestWorks_9 rfl (by decide) rfl ?_
  refine v_iconst (pc := 10) (v := (0 : Int32)) C dX2_bestWorks_10 rfl ?_
  refine v_istore_n (pc := 11) (lv' := [(3, false, .int (0 : Int32)), (2, false, va_rf (some h.1)), (0, false, va_rf a0), (1, false, .int a1)]) C dX2_bestWorks_11 rfl (by decide) rfl ?_
  exact V.sub [2, 3, 1, 0] rfl (vX2_bestWorks_p12 X _ _ _ _ _ _ _ _ hf)
theorem mX2_bestWorks {l : Launch} {D : aD} {h : aH} {a0 : Option Nat} {a1 : Int32} {q : Int32} {g : aH} (hst : l.stackTraces = false) (hf : fX2_bestWorks D h a0 a1 = some (q, g)) : aM l D yX2_bestWorks cX2_bestWorks 11 (some .int) 8 187 [va_rf a0, .int a1] h (.inr (some (.int q)), g) :=
  aM.ofX [(false, va_rf a0), (false, .int a1)] rfl (ap_r (ap_c rfl ap_0)) (by decide +kernel) hst (al_of (aw_r (aw_i aw_0)) (by decide)) fun p e s m args below meth c X => V.sub (lv' := [(0, false, va_rf a0), (1, false, .int a1)]) [0, 1] rfl (vX2_bestWorks X hf)
def fX2_worksFor (D : aD) (h : aH) (a0 : Option Nat) (a1 : Int32) : Option (Int32 × aH) :=
  (pF D h 1 0 a0 (.int (0 : Int32))).bind fun h1 =>
  (fX2_in D h1 a1 (0 : Int32) (10000 : Int32)).bind fun x3 =>
  if x3 = 0 then
  ((aIs h1 1 a0).bind fun _ =>
  bnd2 (fX2_err D h1 a0 (1 : Int32)) fun x6 h7 =>
  some (x6, h7))
  else
  ((aIs h1 1 a0).bind fun _ =>
  bnd2 (fX2_bestWorks D h1 a0 a1) fun x9 h10 =>
  some (x9, h10))
theorem vX2_worksFor {h : aH} {a0 : Option Nat} {a1 : Int32} {q : Int32} {g : aH} (X : aX p l R s m meth c D n0 s0 yX2_worksFor cX2_worksFor 9 217 2 (some .int) h0) (hf : fX2_worksFor D h a0 a1 = some (q, g)) : V p l e R s m args below meth c D n0 s0 (aEnd D below args s h0 (.inr (some (.int q)), g)) h 0 [(0, false, va_rf a0), (1, false, .int a1)] [] := by
  have C := X.1
  unfold fX2_worksFor at hf
  refine v_aload_n (pc := 0) (j := 0) C dX2_worksFor_0 rfl rfl ?_
  refine v_iconst (pc := 1) (v := (0 : Int32)) C dX2_worksFor_1 rfl ?_
  obtain ⟨h1, eh1, hf⟩ := oB hf
  refine v_putF (pc := 2) C lk_X2_69 tyX2 tyX2_ok nmX2 (tyX2_ok 0 (by decide)) rfl rfl eh1 dX2_worksFor_2 ?_
  refine v_iload_n (pc := 5) (j := 1) C dX2_worksFor_5 rfl rfl ?_
  refine v_iconst (pc := 6) (v := (0 : Int32)) C dX2_worksFor_6 rfl ?_
  refine v_sipush (pc := 7) (v := (10000 : Int32)) C dX2_worksFor_7 rfl ?_
  obtain ⟨x3, ex3, hf⟩ := oB hf
  refine v_call (pc := 10) (d_S (pc := 10) C (As := [.int a1, .int (0 : Int32), .int (10000 : Int32)]) (rest := []) q2495 q2496 yk_X2_in rfl (by decide) (by decide) (Nat.le_trans aw_0 (by decide)) rfl (mX2_in C.st ex3) dX2_worksFor_10) ?_
  refine v_if_eq (pc := 13) (tgt := 24) C dX2_worksFor_13 rfl (fun hc => ?_) (fun hc => ?_)
  · rw [if_pos hc] at hf
    refine v_aload_n (pc := 24) (j := 0) C dX2_worksFor_24 rfl rfl ?_
    refine v_iconst (pc := 25) (v := (1 : Int32)) C dX2_worksFor_25 rfl ?_
    obtain ⟨b5, eb5, hf⟩ := oB hf
    obtain ⟨rb5, _, kb5⟩ := aIs_eq eb5
    obtain ⟨x6, h7, ex6, hf⟩ := bnd2_eq hf
    refine v_call (pc := 26) (d_V (pc := 26) C (As := [.int (1 : Int32)]) (rest := []) rb5 kb5 nt_1 q2498 yi_X2_err_FigureSurveyModel yk_X2_err rfl (by decide) (by decide) (Nat.le_trans aw_0 (by decide)) rfl (mX2_err C.st ex6) dX2_worksFor_26) ?_
    cases hf
    exact v_ireturn (pc := 29) C X.2.1 X.2.2.1 X.2.2.2.1 rfl dX2_worksFor_29
  · rw [if_neg hc] at hf
    refine v_aload_n (pc := 16) (j := 0) C dX2_worksFor_16 rfl rfl ?_
    refine v_iload_n (pc := 17) (j := 1) C dX2_worksFor_17 rfl rfl ?_
    obtain ⟨b8, eb8, hf⟩ := oB hf
    obtain ⟨rb8, _, kb8⟩ := aIs_eq eb8
    obtain ⟨x9, h10, ex9, hf⟩ := bnd2_eq hf
    refine v_call (pc := 18) (d_V (pc := 18) C (As := [.int a1]) (rest := []) rb8 kb8 nt_1 q2870 yi_X2_bestWorks_FigureSurveyModel yk_X2_bestWorks rfl (by decide) (by decide) (Nat.le_trans aw_0 (by decide)) rfl (mX2_bestWorks C.st ex9) dX2_worksFor_18) ?_
    refine v_goto (pc := 21) (tgt := 29) C dX2_worksFor_21 rfl ?_
    cases hf
    exact v_ireturn (pc := 29) C X.2.1 X.2.2.1 X.2.2.2.1 rfl dX2_worksFor_29
theorem mX2_worksFor {l : Launch} {D : aD} {h : aH} {a0 : Option Nat} {a1 : Int32} {q : Int32} {g : aH} (hst : l.stackTraces = false) (hf : fX2_worksFor D h a0 a1 = some (q, g)) : aM l D yX2_worksFor cX2_worksFor 2 (some .int) 9 217 [va_rf a0, .int a1] h (.inr (some (.int q)), g) :=
  aM.ofX [(false, va_rf a0), (false, .int a1)] rfl (ap_r (ap_c rfl ap_0)) (by decide +kernel) hst (al_of (aw_r (aw_i aw_0)) (by decide)) fun p e s m args below meth c X => V.sub (lv' := [(0, false, va_rf a0), (1, false, .int a1)]) [0, 1] rfl (vX2_worksFor X hf)
def fX2_doWorks_p116 (D : aD) (K43 : aH → (Option Nat) → Int32 → Int32 → Int32 → Option (Int32 × aH)) (h : aH) (a0 : Option Nat) (a2 : Int32) (a3 : Int32) (a4 : Int32) : Option (Int32 × aH) :=
  K43 h a0 a2 a3 (a4 + 1)
theorem vX2_doWorks_p116 {h : aH} {K43 : aH → (Option Nat) → Int32 → Int32 → Int32 → Option (Int32 × aH)} {a0 : Option Nat} {a2 : Int32} {a3 : Int32} {a4 : Int32} {q : Int32} {g : aH} (X : aX p l R s m meth c D n0 s0 yX2_doWorks cX2_doWorks 9 217 6 (some .int) h0) (k43 : ∀ (h : aH) (a0 : Option Nat) (a2 : Int32) (a3 : Int32) (a4 : Int32) (q : Int32) (g : aH), K43 h a0 a2 a3 a4 = some (q, g) → V p l e R s m args below meth c D n0 s0 (aEnd D below args s h0 (.inr (some (.int q)), g)) h 43 [(0, false, va_rf a0), (2, false, .int a2), (3, false, .int a3), (4, false, .int a4)] []) (hf : fX2_doWorks_p116 D K43 h a0 a2 a3 a4 = some (q, g)) : V p l e R s m args below meth c D n0 s0 (aEnd D below args s h0 (.inr (some (.int q)), g)) h 116 [(0, false, va_rf a0), (2, false, .int a2), (3, false, .int a3), (4, false, .int a4)] [] := by
  have C := X.1
  unfold fX2_doWorks_p116 at hf
  refine v_iinc (pc := 116) (j := 3) (v := (a4 + 1)) (lv' := [(4, false, .int (a4 + 1)), (0, false, va_rf a0), (2, false, .int a2), (3, false, .int a3)]) C dX2_doWorks_116 rfl rfl (by decide) rfl ?_
  refine v_goto (pc := 119) (tgt := 43) C dX2_doWorks_119 rfl ?_
  exact V.sub [1, 2, 3, 0] rfl (k43 _ _ _ _ _ _ _ hf)
def fX2_doWorks_p43 (D : aD) : Nat → aH → (Option Nat) → Int32 → Int32 → Int32 → Option (Int32 × aH)
  | 0, _, _, _, _, _ => none
  | n + 1, h, a0, a2, a3, a4 =>
  (gR h 1 19 a0).bind fun x1 =>
  (aIs h 15 x1).bind fun _ =>
  (fJ2_size D h x1).bind fun x3 =>
  if x3 ≤ a4 then
  (some (a3, h))
  else
  ((gR h 1 19 a0).bind fun x5 =>
  (aIs h 15 x5).bind fun _ =>
  (fJ2_get D h x5 a4).bind fun x7 =>
  (aCast h [100] x7).bind fun _ =>
  if ((a2 >>> (a4 &&& 31)) &&& (1 : Int32)) = 0 then
  (fX2_doWorks_p116 D (fX2_doWorks_p43 D n) h a0 a2 a3 a4)
  else
  ((sF D h 100 x7 (3 : Int32) (.int (1 : Int32))).bind fun h10 =>
  (gR h10 1 4 a0).bind fun x11 =>
  (eI h10 x7 (0 : Int32)).bind fun x12 =>
  (aIs h10 15 x11).bind fun _ =>
  (fJ2_get D h10 x11 x12).bind fun x14 =>
  (aCast h10 [100] x14).bind fun _ =>
  (eI h10 x14 (5 : Int32)).bind fun x17 =>
  (eI h10 x7 (2 : Int32)).bind fun x18 =>
  (sF D h10 100 x14 (5 : Int32) (.int (x17 + x18))).bind fun h19 =>
  (eI h19 x7 (1 : Int32)).bind fun x20 =>
  (some ((a3 + x20))).bind fun x21 =>
  fX2_doWorks_p116 D (fX2_doWorks_p43 D n) h19 a0 a2 x21 a4))
theorem vX2_doWorks_p43 (X : aX p l R s m meth c D n0 s0 yX2_doWorks cX2_doWorks 9 217 6 (some .int) h0) : ∀ (n : Nat) (h : aH) (a0 : Option Nat) (a2 : Int32) (a3 : Int32) (a4 : Int32) (q : Int32) (g : aH), fX2_doWorks_p43 D n h a0 a2 a3 a4 = some (q, g) → V p l e R s m args below meth c D n0 s0 (aEnd D below args s h0 (.inr (some (.int q)), g)) h 43 [(0, false, va_rf a0), (2, false, .int a2), (3, false, .int a3), (4, false, .int a4)] [] := by
  have C := X.1
  intro n
  induction n with
  | zero =>
    intro _ _ _ _ _ _ _ hf
    rw [fX2_doWorks_p43] at hf
    cases hf
  | succ n ih =>
    intro h a0 a2 a3 a4 q g hf
    rw [fX2_doWorks_p43] at hf
    refine v_iload (pc := 43) (j := 3) C dX2_doWorks_43 rfl ?_
    refine v_aload_n (pc := 45) (j := 0) C dX2_doWorks_45 rfl rfl ?_
    obtain ⟨x1, ex1, hf⟩ := oB hf
    refine v_getF (pc := 46) C lk_X2_66 (gR_eq ex1) dX2_doWorks_46 ?_
    obtain ⟨b2, eb2, hf⟩ := oB hf
    obtain ⟨rb2, _, kb2⟩ := aIs_eq eb2
    obtain ⟨x3, ex3, hf⟩ := oB hf
    refine v_call (pc := 49) (d_V (pc := 49) C (As := []) (rest := [.int a4]) rb2 kb2 nt_15 q2502 yi_J2_size_java_util_ArrayList yk_J2_size rfl (by decide) (by decide) (Nat.le_trans (aw_i aw_0) (by decide)) rfl (mJ2_size C.st ex3) dX2_doWorks_49) ?_
    refine v_icmp_ge (pc := 52) (tgt := 122) C dX2_doWorks_52 rfl (fun hc => ?_) (fun hc => ?_)
    · rw [if_pos hc] at hf
      refine v_iload_n (pc := 122) (j := 2) C dX2_doWorks_122 rfl rfl ?_
      cases hf
      exact v_ireturn (pc := 123) C X.2.1 X.2.2.1 X.2.2.2.1 rfl dX2_doWorks_123
    · rw [if_neg hc] at hf
      refine v_aload_n (pc := 55) (j := 0) C dX2_doWorks_55 rfl rfl ?_
      obtain ⟨x5, ex5, hf⟩ := oB hf
      refine v_getF (pc := 56) C lk_X2_66 (gR_eq ex5) dX2_doWorks_56 ?_
      refine v_iload (pc := 59) (j := 3) C dX2_doWorks_59 rfl ?_
      obtain ⟨b6, eb6, hf⟩ := oB hf
      obtain ⟨rb6, _, kb6⟩ := aIs_eq eb6
      obtain ⟨x7, ex7, hf⟩ := oB hf
      refine v_call (pc := 61) (d_V (pc := 61) C (As := [.int a4]) (rest := []) rb6 kb6 nt_15 q2520 yi_J2_get_java_util_ArrayList yk_J2_get rfl (by decide) (by decide) (Nat.le_trans aw_0 (by decide)) rfl (mJ2_get C.st ex7) dX2_doWorks_61) ?_
      obtain ⟨_, e9, hf⟩ := oB hf
      refine v_cast (pc := 64) C q2521 ct__I e9 dX2_doWorks_64 ?_
      refine v_astore (pc := 67) (lv' := [(5, false, va_rf x7), (0, false, va_rf a0), (2, false, .int a2), (3, false, .int a3), (4, false, .int a4)]) C dX2_doWorks_67 (by decide) rfl ?_
      refine v_iload_n (pc := 69) (j := 2) C dX2_doWorks_69 rfl rfl ?_
      refine v_iload (pc := 70) (j := 4) C dX2_doWorks_70 rfl ?_
      refine v_ishr (pc := 72) C dX2_doWorks_72 ?_
      refine v_iconst (pc := 73) (v := (1 : Int32)) C dX2_doWorks_73 rfl ?_
      refine v_iand (pc := 74) C dX2_doWorks_74 ?_
      refine v_if_ne (pc := 75) (tgt := 81) C dX2_doWorks_75 rfl (fun hc => ?_) (fun hc => ?_)
      · rw [if_neg hc] at hf
        refine v_aload (pc := 81) (j := 0) C dX2_doWorks_81 rfl ?_
        refine v_iconst (pc := 83) (v := (3 : Int32)) C dX2_doWorks_83 rfl ?_
        refine v_iconst (pc := 84) (v := (1 : Int32)) C dX2_doWorks_84 rfl ?_
        obtain ⟨h10, eh10, hf⟩ := oB hf
        refine v_iastore (pc := 85) C eh10 dX2_doWorks_85 ?_
        refine v_aload_n (pc := 86) (j := 1) C dX2_doWorks_86 rfl rfl ?_
        obtain ⟨x11, ex11, hf⟩ := oB hf
        refine v_getF (pc := 87) C lk_X2_16 (gR_eq ex11) dX2_doWorks_87 ?_
        refine v_aload (pc := 90) (j := 0) C dX2_doWorks_90 rfl ?_
        refine v_iconst (pc := 92) (v := (0 : Int32)) C dX2_doWorks_92 rfl ?_
        obtain ⟨x12, ex12, hf⟩ := oB hf
        refine v_iaload (pc := 93) C ex12 dX2_doWorks_93 ?_
        obtain ⟨b13, eb13, hf⟩ := oB hf
        obtain ⟨rb13, _, kb13⟩ := aIs_eq eb13
        obtain ⟨x14, ex14, hf⟩ := oB hf
        refine v_call (pc := 94) (d_V (pc := 94) C (As := [.int x12]) (rest := []) rb13 kb13 nt_15 q2520 yi_J2_get_java_util_ArrayList yk_J2_get rfl (by decide) (by decide) (Nat.le_trans aw_0 (by decide)) rfl (mJ2_get C.st ex14) dX2_doWorks_94) ?_
        obtain ⟨_, e16, hf⟩ := oB hf
        refine v_cast (pc := 97) C q2521 ct__I e16 dX2_doWorks_97 ?_
        refine v_iconst (pc := 100) (v := (5 : Int32)) C dX2_doWorks_100 rfl ?_
        refine v_dup2_11 (pc := 101) C dX2_doWorks_101 rfl (va_rfc _) ?_
        obtain ⟨x17, ex17, hf⟩ := oB hf
        refine v_iaload (pc := 102) C ex17 dX2_doWorks_102 ?_
        refine v_aload (pc := 103) (j := 0) C dX2_doWorks_103 rfl ?_
        refine v_iconst (pc := 105) (v := (2 : Int32)) C dX2_doWorks_105 rfl ?_
        obtain ⟨x18, ex18, hf⟩ := oB hf
        refine v_iaload (pc := 106) C ex18 dX2_doWorks_106 ?_
        refine v_iadd (pc := 107) C dX2_doWorks_107 ?_
        obtain ⟨h19, eh19, hf⟩ := oB hf
        refine v_iastore (pc := 108) C eh19 dX2_doWorks_108 ?_
        refine v_iload_n (pc := 109) (j := 3) C dX2_doWorks_109 rfl rfl ?_
        refine v_aload (pc := 110) (j := 0) C dX2_doWorks_110 rfl ?_
        refine v_iconst (pc := 112) (v := (1 : Int32)) C dX2_doWorks_112 rfl ?_
        obtain ⟨x20, ex20, hf⟩ := oB hf
        refine v_iaload (pc := 113) C ex20 dX2_doWorks_113 ?_
        refine v_iadd (pc := 114) C dX2_doWorks_114 ?_
        obtain ⟨x21, ex21, hf⟩ := oB hf
        refine vst (Option.some.inj ex21) (fun z => .int z :: []) ?_
        refine v_istore_n (pc := 115) (lv' := [(3, false, .int x21), (5, false, va_rf x7), (0, false, va_rf a0), (2, false, .int a2), (4, false, .int a4)]) C dX2_doWorks_115 rfl (by decide) rfl ?_
        exact V.sub [2, 3, 0, 4] rfl (vX2_doWorks_p116 X ih hf)
      · rw [if_pos (Decidable.of_not_not hc)] at hf
        refine v_goto (pc := 78) (tgt := 116) C dX2_doWorks_78 rfl ?_
        exact V.sub [1, 2, 3, 4] rfl (vX2_doWorks_p116 X ih hf)
def fX2_doWorks (D : aD) (h : aH) (a0 : Option Nat) (a1 : Int32) : Option (Int32 × aH) :=
  (pF D h 1 0 a0 (.int (0 : Int32))).bind fun h1 =>
  (fX2_in D h1 a1 (0 : Int32) (10000 : Int32)).bind fun x3 =>
  if x3 = 0 then
  ((aIs h1 1 a0).bind fun _ =>
  bnd2 (fX2_err D h1 a0 (1 : Int32)) fun x12 h13 =>
  some (x12, h13))
  else
  ((aIs h1 1 a0).bind fun _ =>
  bnd2 (fX2_bestWorks D h1 a0 a1) fun x6 h7 =>
  if x6 = 0 then
  ((aIs h7 1 a0).bind fun _ =>
  bnd2 (fX2_err D h7 a0 (2 : Int32)) fun x9 h10 =>
  some (x9, h10))
  else
  (fX2_doWorks_p43 D FU h7 a0 x6 (0 : Int32) (0 : Int32)))
theorem vX2_doWorks {h : aH} {a0 : Option Nat} {a1 : Int32} {q : Int32} {g : aH} (X : aX p l R s m meth c D n0 s0 yX2_doWorks cX2_doWorks 9 217 6 (some .int) h0) (hf : fX2_doWorks D h a0 a1 = some (q, g)) : V p l e R s m args below meth c D n0 s0 (aEnd D below args s h0 (.inr (some (.int q)), g)) h 0 [(0, false, va_rf a0), (1, false, .int a1)] [] := by
  have C := X.1
  unfold fX2_doWorks at hf
  refine v_aload_n (pc := 0) (j := 0) C dX2_doWorks_0 rfl rfl ?_
  refine v_iconst (pc := 1) (v := (0 : Int32)) C dX2_doWorks_1 rfl ?_
  obtain ⟨h1, eh1, hf⟩ := oB hf
  refine v_putF (pc := 2) C lk_X2_69 tyX2 tyX2_ok nmX2 (tyX2_ok 0 (by decide)) rfl rfl eh1 dX2_doWorks_2 ?_
  refine v_iload_n (pc := 5) (j := 1) C dX2_doWorks_5 rfl rfl ?_
  refine v_iconst (pc := 6) (v := (0 : Int32)) C dX2_doWorks_6 rfl ?_
  refine v_sipush (pc := 7) (v := (10000 : Int32)) C dX2_doWorks_7 rfl ?_
  obtain ⟨x3, ex3, hf⟩ := oB hf
  refine v_call (pc := 10) (d_S (pc := 10) C (As := [.int a1, .int (0 : Int32), .int (10000 : Int32)]) (rest := []) q2495 q2496 yk_X2_in rfl (by decide) (by decide) (Nat.le_trans aw_0 (by decide)) rfl (mX2_in C.st ex3) dX2_doWorks_10) ?_
  refine v_if_ne (pc := 13) (tgt := 22) C dX2_doWorks_13 rfl (fun hc => ?_) (fun hc => ?_)
  · rw [if_neg hc] at hf
    refine v_aload_n (pc := 22) (j := 0) C dX2_doWorks_22 rfl rfl ?_
    refine v_iload_n (pc := 23) (j := 1) C dX2_doWorks_23 rfl rfl ?_
    obtain ⟨b5, eb5, hf⟩ := oB hf
    obtain ⟨rb5, _, kb5⟩ := aIs_eq eb5
    obtain ⟨x6, h7, ex6, hf⟩ := bnd2_eq hf
    refine v_call (pc := 24) (d_V (pc := 24) C (As := [.int a1]) (rest := []) rb5 kb5 nt_1 q2870 yi_X2_bestWorks_FigureSurveyModel yk_X2_bestWorks rfl (by decide) (by decide) (Nat.le_trans aw_0 (by decide)) rfl (mX2_bestWorks C.st ex6) dX2_doWorks_24) ?_
    refine v_istore_n (pc := 27) (lv' := [(2, false, .int x6), (0, false, va_rf a0), (1, false, .int a1)]) C dX2_doWorks_27 rfl (by decide) rfl ?_
    refine v_iconst (pc := 28) (v := (0 : Int32)) C dX2_doWorks_28 rfl ?_
    refine v_istore_n (pc := 29) (lv' := [(3, false, .int (0 : Int32)), (2, false, .int x6), (0, false, va_rf a0), (1, false, .int a1)]) C dX2_doWorks_29 rfl (by decide) rfl ?_
    refine v_iload_n (pc := 30) (j := 1) C dX2_doWorks_30 rfl rfl ?_
    refine v_if_ne (pc := 31) (tgt := 40) C dX2_doWorks_31 rfl (fun hc => ?_) (fun hc => ?_)
    · rw [if_neg hc] at hf
      refine v_iconst (pc := 40) (v := (0 : Int32)) C dX2_doWorks_40 rfl ?_
      refine v_istore (pc := 41) (lv' := [(4, false, .int (0 : Int32)), (3, false, .int (0 : Int32)), (2, false, .int x6), (0, false, va_rf a0), (1, false, .int a1)]) C dX2_doWorks_41 (by decide) rfl ?_
      exact V.sub [3, 2, 1, 0] rfl (vX2_doWorks_p43 X _ _ _ _ _ _ _ _ hf)
    · rw [if_pos (Decidable.of_not_not hc)] at hf
      refine v_aload_n (pc := 34) (j := 2) C dX2_doWorks_34 rfl rfl ?_
      refine v_iconst (pc := 35) (v := (2 : Int32)) C dX2_doWorks_35 rfl ?_
      obtain ⟨b8, eb8, hf⟩ := oB hf
      obtain ⟨rb8, _, kb8⟩ := aIs_eq eb8
      obtain ⟨x9, h10, ex9, hf⟩ := bnd2_eq hf
      refine v_call (pc := 36) (d_V (pc := 36) C (As := [.int (2 : Int32)]) (rest := []) rb8 kb8 nt_1 q2498 yi_X2_err_FigureSurveyModel yk_X2_err rfl (by decide) (by decide) (Nat.le_trans aw_0 (by decide)) rfl (mX2_err C.st ex9) dX2_doWorks_36) ?_
      cases hf
      exact v_ireturn (pc := 39) C X.2.1 X.2.2.1 X.2.2.2.1 rfl dX2_doWorks_39
  · rw [if_pos (Decidable.of_not_not hc)] at hf
    refine v_aload_n (pc := 16) (j := 0) C dX2_doWorks_16 rfl rfl ?_
    refine v_iconst (pc := 17) (v := (1 : Int32)) C dX2_doWorks_17 rfl ?_
    obtain ⟨b11, eb11, hf⟩ := oB hf
    obtain ⟨rb11, _, kb11⟩ := aIs_eq eb11
    obtain ⟨x12, h13, ex12, hf⟩ := bnd2_eq hf
    refine v_call (pc := 18) (d_V (pc := 18) C (As := [.int (1 : Int32)]) (rest := []) rb11 kb11 nt_1 q2498 yi_X2_err_FigureSurveyModel yk_X2_err rfl (by decide) (by decide) (Nat.le_trans aw_0 (by decide)) rfl (mX2_err C.st ex12) dX2_doWorks_18) ?_
    cases hf
    exact v_ireturn (pc := 21) C X.2.1 X.2.2.1 X.2.2.2.1 rfl dX2_doWorks_21
theorem mX2_doWorks {l : Launch} {D : aD} {h : aH} {a0 : Option Nat} {a1 : Int32} {q : Int32} {g : aH} (hst : l.stackTraces = false) (hf : fX2_doWorks D h a0 a1 = some (q, g)) : aM l D yX2_doWorks cX2_doWorks 6 (some .int) 9 217 [va_rf a0, .int a1] h (.inr (some (.int q)), g) :=
  aM.ofX [(false, va_rf a0), (false, .int a1)] rfl (ap_r (ap_c rfl ap_0)) (by decide +kernel) hst (al_of (aw_r (aw_i aw_0)) (by decide)) fun p e s m args below meth c X => V.sub (lv' := [(0, false, va_rf a0), (1, false, .int a1)]) [0, 1] rfl (vX2_doWorks X hf)
def fX2_setLoad (D : aD) (h : aH) (a0 : Option Nat) (a1 : Int32) (a2 : Int32) : Option (Int32 × aH) :=
  (pF D h 1 0 a0 (.int (0 : Int32))).bind fun h1 =>
  (aIs h1 1 a0).bind fun _ =>
  (fX2_noPanel D h1 a0 a1).bind fun x3 =>
  if x3 = 0 then
  ((fX2_in D h1 a2 (0 : Int32) (1000 : Int32)).bind fun x6 =>
  if x6 = 0 then
  ((aIs h1 1 a0).bind fun _ =>
  bnd2 (fX2_err D h1 a0 (2 : Int32)) fun x21 h22 =>
  some (x21, h22))
  else
  ((gR h1 1 4 a0).bind fun x8 =>
  (aIs h1 15 x8).bind fun _ =>
  (fJ2_get D h1 x8 a1).bind fun x10 =>
  (aCast h1 [100] x10).bind fun _ =>
  (eI h1 x10 (7 : Int32)).bind fun x13 =>
  (gR h1 1 4 a0).bind fun x14 =>
  (aIs h1 15 x14).bind fun _ =>
  (fJ2_get D h1 x14 a1).bind fun x16 =>
  (aCast h1 [100] x16).bind fun _ =>
  (sF D h1 100 x16 (7 : Int32) (.int a2)).bind fun h19 =>
  some (x13, h19)))
  else
  ((aIs h1 1 a0).bind fun _ =>
  bnd2 (fX2_err D h1 a0 (1 : Int32)) fun x24 h25 =>
  some (x24, h25))
theorem vX2_setLoad {h : aH} {a0 : Option Nat} {a1 : Int32} {a2 : Int32} {q : Int32} {g : aH} (X : aX p l R s m meth c D n0 s0 yX2_setLoad cX2_setLoad 3 64 4 (some .int) h0) (hf : fX2_setLoad D h a0 a1 a2 = some (q, g)) : V p l e R s m args below meth c D n0 s0 (aEnd D below args s h0 (.inr (some (.int q)), g)) h 0 [(0, false, va_rf a0), (1, false, .int a1), (2, false, .int a2)] [] := by
  have C := X.1
  unfold fX2_setLoad at hf
  refine v_aload_n (pc := 0) (j := 0) C dX2_setLoad_0 rfl rfl ?_
  refine v_iconst (pc := 1) (v := (0 : Int32)) C dX2_setLoad_1 rfl ?_
  obtain ⟨h1, eh1, hf⟩ := oB hf
  refine v_putF (pc := 2) C lk_X2_69 tyX2 tyX2_ok nmX2 (tyX2_ok 0 (by decide)) rfl rfl eh1 dX2_setLoad_2 ?_
  refine v_aload_n (pc := 5) (j := 0) C dX2_setLoad_5 rfl rfl ?_
  refine v_iload_n (pc := 6) (j := 1) C dX2_setLoad_6 rfl rfl ?_
  obtain ⟨b2, eb2, hf⟩ := oB hf
  obtain ⟨rb2, _, kb2⟩ := aIs_eq eb2
  obtain ⟨x3, ex3, hf⟩ := oB hf
  refine v_call (pc := 7) (d_V (pc := 7) C (As := [.int a1]) (rest := []) rb2 kb2 nt_1 q2508 yi_X2_noPanel_FigureSurveyModel yk_X2_noPanel rfl (by decide) (by decide) (Nat.le_trans aw_0 (by decide)) rfl (mX2_noPanel C.st ex3) dX2_setLoad_7) ?_
  refine v_if_eq (pc := 10) (tgt := 19) C dX2_setLoad_10 rfl (fun hc => ?_) (fun hc => ?_)
  · rw [if_pos hc] at hf
    refine v_iload_n (pc := 19) (j := 2) C dX2_setLoad_19 rfl rfl ?_
    refine v_iconst (pc := 20) (v := (0 : Int32)) C dX2_setLoad_20 rfl ?_
    refine v_sipush (pc := 21) (v := (1000 : Int32)) C dX2_setLoad_21 rfl ?_
    obtain ⟨x6, ex6, hf⟩ := oB hf
    refine v_call (pc := 24) (d_S (pc := 24) C (As := [.int a2, .int (0 : Int32), .int (1000 : Int32)]) (rest := []) q2495 q2496 yk_X2_in rfl (by decide) (by decide) (Nat.le_trans aw_0 (by decide)) rfl (mX2_in C.st ex6) dX2_setLoad_24) ?_
    refine v_if_ne (pc := 27) (tgt := 36) C dX2_setLoad_27 rfl (fun hc => ?_) (fun hc => ?_)
    · rw [if_neg hc] at hf
      refine v_aload_n (pc := 36) (j := 0) C dX2_setLoad_36 rfl rfl ?_
      obtain ⟨x8, ex8, hf⟩ := oB hf
      refine v_getF (pc := 37) C lk_X2_16 (gR_eq ex8) dX2_setLoad_37 ?_
      refine v_iload_n (pc := 40) (j := 1) C dX2_setLoad_40 rfl rfl ?_
      obtain ⟨b9, eb9, hf⟩ := oB hf
      obtain ⟨rb9, _, kb9⟩ := aIs_eq eb9
      obtain ⟨x10, ex10, hf⟩ := oB hf
      refine v_call (pc := 41) (d_V (pc := 41) C (As := [.int a1]) (rest := []) rb9 kb9 nt_15 q2520 yi_J2_get_java_util_ArrayList yk_J2_get rfl (by decide) (by decide) (Nat.le_trans aw_0 (by decide)) rfl (mJ2_get C.st ex10) dX2_setLoad_41) ?_
      obtain ⟨_, e12, hf⟩ := oB hf
      refine v_cast (pc := 44) C q2521 ct__I e12 dX2_setLoad_44 ?_
      refine v_bipush (pc := 47) (v := (7 : Int32)) C dX2_setLoad_47 rfl ?_
      obtain ⟨x13, ex13, hf⟩ := oB hf
      refine v_iaload (pc := 49) C ex13 dX2_setLoad_49 ?_
      refine v_istore_n (pc := 50) (lv' := [(3, false, .int x13), (0, false, va_rf a0), (1, false, .int a1), (2, false, .int a2)]) C dX2_setLoad_50 rfl (by decide) rfl ?_
      refine v_aload_n (pc := 51) (j := 1) C dX2_setLoad_51 rfl rfl ?_
      obtain ⟨x14, ex14, hf⟩ := oB hf
      refine v_getF (pc := 52) C lk_X2_16 (gR_eq ex14) dX2_setLoad_52 ?_
      refine v_iload_n (pc := 55) (j := 2) C dX2_setLoad_55 rfl rfl ?_
      obtain ⟨b15, eb15, hf⟩ := oB hf
      obtain ⟨rb15, _, kb15⟩ := aIs_eq eb15
      obtain ⟨x16, ex16, hf⟩ := oB hf
      refine v_call (pc := 56) (d_V (pc := 56) C (As := [.int a1]) (rest := []) rb15 kb15 nt_15 q2520 yi_J2_get_java_util_ArrayList yk_J2_get rfl (by decide) (by decide) (Nat.le_trans aw_0 (by decide)) rfl (mJ2_get C.st ex16) dX2_setLoad_56) ?_
      obtain ⟨_, e18, hf⟩ := oB hf
      refine v_cast (pc := 59) C q2521 ct__I e18 dX2_setLoad_59 ?_
      refine v_bipush (pc := 62) (v := (7 : Int32)) C dX2_setLoad_62 rfl ?_
      refine v_iload_n (pc := 64) (j := 3) C dX2_setLoad_64 rfl rfl ?_
      obtain ⟨h19, eh19, hf⟩ := oB hf
      refine v_iastore (pc := 65) C eh19 dX2_setLoad_65 ?_
      refine v_iload_n (pc := 66) (j := 0) C dX2_setLoad_66 rfl rfl ?_
      cases hf
      exact v_ireturn (pc := 67) C X.2.1 X.2.2.1 X.2.2.2.1 rfl dX2_setLoad_67
    · rw [if_pos (Decidable.of_not_not hc)] at hf
      refine v_aload_n (pc := 30) (j := 0) C dX2_setLoad_30 rfl rfl ?_
      refine v_iconst (pc := 31) (v := (2 : Int32)) C dX2_setLoad_31 rfl ?_
      obtain ⟨b20, eb20, hf⟩ := oB hf
      obtain ⟨rb20, _, kb20⟩ := aIs_eq eb20
      obtain ⟨x21, h22, ex21, hf⟩ := bnd2_eq hf
      refine v_call (pc := 32) (d_V (pc := 32) C (As := [.int (2 : Int32)]) (rest := []) rb20 kb20 nt_1 q2498 yi_X2_err_FigureSurveyModel yk_X2_err rfl (by decide) (by decide) (Nat.le_trans aw_0 (by decide)) rfl (mX2_err C.st ex21) dX2_setLoad_32) ?_
      cases hf
      exact v_ireturn (pc := 35) C X.2.1 X.2.2.1 X.2.2.2.1 rfl dX2_setLoad_35
  · rw [if_neg hc] at hf
    refine v_aload_n (pc := 13) (j := 0) C dX2_setLoad_13 rfl rfl ?_
    refine v_iconst (pc := 14) (v := (1 : Int32)) C dX2_setLoad_14 rfl ?_
    obtain ⟨b23, eb23, hf⟩ := oB hf
    obtain ⟨rb23, _, kb23⟩ := aIs_eq eb23
    obtain ⟨x24, h25, ex24, hf⟩ := bnd2_eq hf
    refine v_call (pc := 15) (d_V (pc := 15) C (As := [.int (1 : Int32)]) (rest := []) rb23 kb23 nt_1 q2498 yi_X2_err_FigureSurveyModel yk_X2_err rfl (by decide) (by decide) (Nat.le_trans aw_0 (by decide)) rfl (mX2_err C.st ex24) dX2_setLoad_15) ?_
    cases hf
    exact v_ireturn (pc := 18) C X.2.1 X.2.2.1 X.2.2.2.1 rfl dX2_setLoad_18
theorem mX2_setLoad {l : Launch} {D : aD} {h : aH} {a0 : Option Nat} {a1 : Int32} {a2 : Int32} {q : Int32} {g : aH} (hst : l.stackTraces = false) (hf : fX2_setLoad D h a0 a1 a2 = some (q, g)) : aM l D yX2_setLoad cX2_setLoad 4 (some .int) 3 64 [va_rf a0, .int a1, .int a2] h (.inr (some (.int q)), g) :=
  aM.ofX [(false, va_rf a0), (false, .int a1), (false, .int a2)] rfl (ap_r (ap_c rfl (ap_c rfl ap_0))) (by decide +kernel) hst (al_of (aw_r (aw_i (aw_i aw_0))) (by decide)) fun p e s m args below meth c X => V.sub (lv' := [(0, false, va_rf a0), (1, false, .int a1), (2, false, .int a2)]) [0, 1, 2] rfl (vX2_setLoad X hf)
def fX2_tour_p69 (D : aD) (h : aH) (a0 : Option Nat) : Option (Int32 × aH) :=
  (aIs h 1 a0).bind fun _ =>
  bnd2 (fX2_err D h a0 (3 : Int32)) fun x2 h3 =>
  some (x2, h3)
theorem vX2_tour_p69 {h : aH} {a0 : Option Nat} {q : Int32} {g : aH} (X : aX p l R s m meth c D n0 s0 yX2_tour cX2_tour 5 106 4 (some .int) h0) (hf : fX2_tour_p69 D h a0 = some (q, g)) : V p l e R s m args below meth c D n0 s0 (aEnd D below args s h0 (.inr (some (.int q)), g)) h 69 [(0, false, va_rf a0)] [] := by
  have C := X.1
  unfold fX2_tour_p69 at hf
  refine v_aload_n (pc := 69) (j := 0) C dX2_tour_69 rfl rfl ?_
  refine v_iconst (pc := 70) (v := (3 : Int32)) C dX2_tour_70 rfl ?_
  obtain ⟨b1, eb1, hf⟩ := oB hf
  obtain ⟨rb1, _, kb1⟩ := aIs_eq eb1
  obtain ⟨x2, h3, ex2, hf⟩ := bnd2_eq hf
  refine v_call (pc := 71) (d_V (pc := 71) C (As := [.int (3 : Int32)]) (rest := []) rb1 kb1 nt_1 q2498 yi_X2_err_FigureSurveyModel yk_X2_err rfl (by decide) (by decide) (Nat.le_trans aw_0 (by decide)) rfl (mX2_err C.st ex2) dX2_tour_71) ?_
  cases hf
  exact v_ireturn (pc := 74) C X.2.1 X.2.2.1 X.2.2.2.1 rfl dX2_tour_74
def fX2_tour (D : aD) (h : aH) (a0 : Option Nat) (a1 : Int32) (a2 : Int32) : Option (Int32 × aH) :=
  (pF D h 1 0 a0 (.int (0 : Int32))).bind fun h1 =>
  (aIs h1 1 a0).bind fun _ =>
  (fX2_noPanel D h1 a0 a1).bind fun x3 =>
  if x3 = 0 then
  ((fX2_in D h1 a2 (1 : Int32) (200 : Int32)).bind fun x6 =>
  if x6 = 0 then
  ((aIs h1 1 a0).bind fun _ =>
  bnd2 (fX2_err D h1 a0 (2 : Int32)) fun x28 h29 =>
  some (x28, h29))
  else
  ((gR h1 1 4 a0).bind fun x8 =>
  (aIs h1 15 x8).bind fun _ =>
  (fJ2_get D h1 x8 a1).bind fun x10 =>
  (aCast h1 [100] x10).bind fun _ =>
  (aIs h1 1 a0).bind fun _ =>
  (fX2_drowned D h1 a0 a1).bind fun x14 =>
  if x14 = 0 then
  ((eI h1 x10 (8 : Int32)).bind fun x16 =>
  (eI h1 x10 (7 : Int32)).bind fun x17 =>
  if (x16 + a2) ≤ x17 then
  ((eI h1 x10 (8 : Int32)).bind fun x18 =>
  (sF D h1 100 x10 (8 : Int32) (.int (x18 + a2))).bind fun h19 =>
  (eI h19 x10 (6 : Int32)).bind fun x20 =>
  (fJ11_max D h19 (0 : Int32) (x20 - (a2 / (50 : Int32)))).bind fun x22 =>
  (sF D h19 100 x10 (6 : Int32) (.int x22)).bind fun h24 =>
  (eI h24 x10 (7 : Int32)).bind fun x25 =>
  (eI h24 x10 (8 : Int32)).bind fun x26 =>
  some ((x25 - x26), h24))
  else
  (fX2_tour_p69 D h1 a0))
  else
  (fX2_tour_p69 D h1 a0)))
  else
  ((aIs h1 1 a0).bind fun _ =>
  bnd2 (fX2_err D h1 a0 (1 : Int32)) fun x31 h32 =>
  some (x31, h32))
theorem vX2_tour {h : aH} {a0 : Option Nat} {a1 : Int32} {a2 : Int32} {q : Int32} {g : aH} (X : aX p l R s m meth c D n0 s0 yX2_tour cX2_tour 5 106 4 (some .int) h0) (hf : fX2_tour D h a0 a1 a2 = some (q, g)) : V p l e R s m args below meth c D n0 s0 (aEnd D below args s h0 (.inr (some (.int q)), g)) h 0 [(0, false, va_rf a0), (1, false, .int a1), (2, false, .int a2)] [] := by
  have C := X.1
  unfold fX2_tour at hf
  refine v_aload_n (pc := 0) (j := 0) C dX2_tour_0 rfl rfl ?_
  refine v_iconst (pc := 1) (v := (0 : Int32)) C dX2_tour_1 rfl ?_
  obtain ⟨h1, eh1, hf⟩ := oB hf
  refine v_putF (pc := 2) C lk_X2_69 tyX2 tyX2_ok nmX2 (tyX2_ok 0 (by decide)) rfl rfl eh1 dX2_tour_2 ?_
  refine v_aload_n (pc := 5) (j := 0) C dX2_tour_5 rfl rfl ?_
  refine v_iload_n (pc := 6) (j := 1) C dX2_tour_6 rfl rfl ?_
  obtain ⟨b2, eb2, hf⟩ := oB hf
  obtain ⟨rb2, _, kb2⟩ := aIs_eq eb2
  obtain ⟨x3, ex3, hf⟩ := oB hf
  refine v_call (pc := 7) (d_V (pc := 7) C (As := [.int a1]) (rest := []) rb2 kb2 nt_1 q2508 yi_X2_noPanel_FigureSurveyModel yk_X2_noPanel rfl (by decide) (by decide) (Nat.le_trans aw_0 (by decide)) rfl (mX2_noPanel C.st ex3) dX2_tour_7) ?_
  refine v_if_eq (pc := 10) (tgt := 19) C dX2_tour_10 rfl (fun hc => ?_) (fun hc => ?_)
  · rw [if_pos hc] at hf
    refine v_iload_n (pc := 19) (j := 2) C dX2_tour_19 rfl rfl ?_
    refine v_iconst (pc := 20) (v := (1 : Int32)) C dX2_tour_20 rfl ?_
    refine v_sipush (pc := 21) (v := (200 : Int32)) C dX2_tour_21 rfl ?_
    obtain ⟨x6, ex6, hf⟩ := oB hf
    refine v_call (pc := 24) (d_S (pc := 24) C (As := [.int a2, .int (1 : Int32), .int (200 : Int32)]) (rest := []) q2495 q2496 yk_X2_in rfl (by decide) (by decide) (Nat.le_trans aw_0 (by decide)) rfl (mX2_in C.st ex6) dX2_tour_24) ?_
    refine v_if_ne (pc := 27) (tgt := 36) C dX2_tour_27 rfl (fun hc => ?_) (fun hc => ?_)
    · rw [if_neg hc] at hf
      refine v_aload_n (pc := 36) (j := 0) C dX2_tour_36 rfl rfl ?_
      obtain ⟨x8, ex8, hf⟩ := oB hf
      refine v_getF (pc := 37) C lk_X2_16 (gR_eq ex8) dX2_tour_37 ?_
      refine v_iload_n (pc := 40) (j := 1) C dX2_tour_40 rfl rfl ?_
      obtain ⟨b9, eb9, hf⟩ := oB hf
      obtain ⟨rb9, _, kb9⟩ := aIs_eq eb9
      obtain ⟨x10, ex10, hf⟩ := oB hf
      refine v_call (pc := 41) (d_V (pc := 41) C (As := [.int a1]) (rest := []) rb9 kb9 nt_15 q2520 yi_J2_get_java_util_ArrayList yk_J2_get rfl (by decide) (by decide) (Nat.le_trans aw_0 (by decide)) rfl (mJ2_get C.st ex10) dX2_tour_41) ?_
      obtain ⟨_, e12, hf⟩ := oB hf
      refine v_cast (pc := 44) C q2521 ct__I e12 dX2_tour_44 ?_
      refine v_astore_n (pc := 47) (lv' := [(3, false, va_rf x10), (0, false, va_rf a0), (1, false, .int a1), (2, false, .int a2)]) C dX2_tour_47 rfl (by decide) rfl ?_
      refine v_aload_n (pc := 48) (j := 1) C dX2_tour_48 rfl rfl ?_
      refine v_iload_n (pc := 49) (j := 2) C dX2_tour_49 rfl rfl ?_
      obtain ⟨b13, eb13, hf⟩ := oB hf
      obtain ⟨rb13, _, kb13⟩ := aIs_eq eb13
      obtain ⟨x14, ex14, hf⟩ := oB hf
      refine v_call (pc := 50) (d_V (pc := 50) C (As := [.int a1]) (rest := []) rb13 kb13 nt_1 q2512 yi_X2_drowned_FigureSurveyModel yk_X2_drowned rfl (by decide) (by decide) (Nat.le_trans aw_0 (by decide)) rfl (mX2_drowned C.st ex14) dX2_tour_50) ?_
      refine v_if_ne (pc := 53) (tgt := 69) C dX2_tour_53 rfl (fun hc => ?_) (fun hc => ?_)
      · rw [if_neg hc] at hf
        exact V.sub [1] rfl (vX2_tour_p69 X hf)
      · rw [if_pos (Decidable.of_not_not hc)] at hf
        refine v_aload_n (pc := 56) (j := 0) C dX2_tour_56 rfl rfl ?_
        refine v_bipush (pc := 57) (v := (8 : Int32)) C dX2_tour_57 rfl ?_
        obtain ⟨x16, ex16, hf⟩ := oB hf
        refine v_iaload (pc := 59) C ex16 dX2_tour_59 ?_
        refine v_iload_n (pc := 60) (j := 3) C dX2_tour_60 rfl rfl ?_
        refine v_iadd (pc := 61) C dX2_tour_61 ?_
        refine v_aload_n (pc := 62) (j := 0) C dX2_tour_62 rfl rfl ?_
        refine v_bipush (pc := 63) (v := (7 : Int32)) C dX2_tour_63 rfl ?_
        obtain ⟨x17, ex17, hf⟩ := oB hf
        refine v_iaload (pc := 65) C ex17 dX2_tour_65 ?_
        refine v_icmp_le (pc := 66) (tgt := 75) C dX2_tour_66 rfl (fun hc => ?_) (fun hc => ?_)
        · rw [if_pos hc] at hf
          refine v_aload_n (pc := 75) (j := 0) C dX2_tour_75 rfl rfl ?_
          refine v_bipush (pc := 76) (v := (8 : Int32)) C dX2_tour_76 rfl ?_
          refine v_dup2_11 (pc := 78) C dX2_tour_78 rfl (va_rfc _) ?_
          obtain ⟨x18, ex18, hf⟩ := oB hf
          refine v_iaload (pc := 79) C ex18 dX2_tour_79 ?_
          refine v_iload_n (pc := 80) (j := 3) C dX2_tour_80 rfl rfl ?_
          refine v_iadd (pc := 81) C dX2_tour_81 ?_
          obtain ⟨h19, eh19, hf⟩ := oB hf
          refine v_iastore (pc := 82) C eh19 dX2_tour_82 ?_
          refine v_aload_n (pc := 83) (j := 0) C dX2_tour_83 rfl rfl ?_
          refine v_bipush (pc := 84) (v := (6 : Int32)) C dX2_tour_84 rfl ?_
          refine v_iconst (pc := 86) (v := (0 : Int32)) C dX2_tour_86 rfl ?_
          refine v_aload_n (pc := 87) (j := 0) C dX2_tour_87 rfl rfl ?_
          refine v_bipush (pc := 88) (v := (6 : Int32)) C dX2_tour_88 rfl ?_
          obtain ⟨x20, ex20, hf⟩ := oB hf
          refine v_iaload (pc := 90) C ex20 dX2_tour_90 ?_
          refine v_iload_n (pc := 91) (j := 3) C dX2_tour_91 rfl rfl ?_
          refine v_bipush (pc := 92) (v := (50 : Int32)) C dX2_tour_92 rfl ?_
          refine v_idiv (pc := 94) C dX2_tour_94 (by decide) ?_
          refine v_isub (pc := 95) C dX2_tour_95 ?_
          obtain ⟨x22, ex22, hf⟩ := oB hf
          refine v_call (pc := 96) (d_S (pc := 96) C (As := [.int (0 : Int32), .int (x20 - (a2 / (50 : Int32)))]) (rest := [.int (6 : Int32), va_rf x10]) q2827 q424 yk_J11_max rfl (by decide) (by decide) (Nat.le_trans (aw_i (aw_r aw_0)) (by decide)) rfl (mJ11_max C.st ex22) dX2_tour_96) ?_
          obtain ⟨h24, eh24, hf⟩ := oB hf
          refine v_iastore (pc := 99) C eh24 dX2_tour_99 ?_
          refine v_aload_n (pc := 100) (j := 0) C dX2_tour_100 rfl rfl ?_
          refine v_bipush (pc := 101) (v := (7 : Int32)) C dX2_tour_101 rfl ?_
          obtain ⟨x25, ex25, hf⟩ := oB hf
          refine v_iaload (pc := 103) C ex25 dX2_tour_103 ?_
          refine v_aload_n (pc := 104) (j := 0) C dX2_tour_104 rfl rfl ?_
          refine v_bipush (pc := 105) (v := (8 : Int32)) C dX2_tour_105 rfl ?_
          obtain ⟨x26, ex26, hf⟩ := oB hf
          refine v_iaload (pc := 107) C ex26 dX2_tour_107 ?_
          refine v_isub (pc := 108) C dX2_tour_108 ?_
          cases hf
          exact v_ireturn (pc := 109) C X.2.1 X.2.2.1 X.2.2.2.1 rfl dX2_tour_109
        · rw [if_neg hc] at hf
          exact V.sub [1] rfl (vX2_tour_p69 X hf)
    · rw [if_pos (Decidable.of_not_not hc)] at hf
      refine v_aload_n (pc := 30) (j := 0) C dX2_tour_30 rfl rfl ?_
      refine v_iconst (pc := 31) (v := (2 : Int32)) C dX2_tour_31 rfl ?_
      obtain ⟨b27, eb27, hf⟩ := oB hf
      obtain ⟨rb27, _, kb27⟩ := aIs_eq eb27
      obtain ⟨x28, h29, ex28, hf⟩ := bnd2_eq hf
      refine v_call (pc := 32) (d_V (pc := 32) C (As := [.int (2 : Int32)]) (rest := []) rb27 kb27 nt_1 q2498 yi_X2_err_FigureSurveyModel yk_X2_err rfl (by decide) (by decide) (Nat.le_trans aw_0 (by decide)) rfl (mX2_err C.st ex28) dX2_tour_32) ?_
      cases hf
      exact v_ireturn (pc := 35) C X.2.1 X.2.2.1 X.2.2.2.1 rfl dX2_tour_35
  · rw [if_neg hc] at hf
    refine v_aload_n (pc := 13) (j := 0) C dX2_tour_13 rfl rfl ?_
    refine v_iconst (pc := 14) (v := (1 : Int32)) C dX2_tour_14 rfl ?_
    obtain ⟨b30, eb30, hf⟩ := oB hf
    obtain ⟨rb30, _, kb30⟩ := aIs_eq eb30
    obtain ⟨x31, h32, ex31, hf⟩ := bnd2_eq hf
    refine v_call (pc := 15) (d_V (pc := 15) C (As := [.int (1 : Int32)]) (rest := []) rb30 kb30 nt_1 q2498 yi_X2_err_FigureSurveyModel yk_X2_err rfl (by decide) (by decide) (Nat.le_trans aw_0 (by decide)) rfl (mX2_err C.st ex31) dX2_tour_15) ?_
    cases hf
    exact v_ireturn (pc := 18) C X.2.1 X.2.2.1 X.2.2.2.1 rfl dX2_tour_18
theorem mX2_tour {l : Launch} {D : aD} {h : aH} {a0 : Option Nat} {a1 : Int32} {a2 : Int32} {q : Int32} {g : aH} (hst : l.stackTraces = false) (hf : fX2_tour D h a0 a1 a2 = some (q, g)) : aM l D yX2_tour cX2_tour 4 (some .int) 5 106 [va_rf a0, .int a1, .int a2] h (.inr (some (.int q)), g) :=
  aM.ofX [(false, va_rf a0), (false, .int a1), (false, .int a2)] rfl (ap_r (ap_c rfl (ap_c rfl ap_0))) (by decide +kernel) hst (al_of (aw_r (aw_i (aw_i aw_0))) (by decide)) fun p e s m args below meth c X => V.sub (lv' := [(0, false, va_rf a0), (1, false, .int a1), (2, false, .int a2)]) [0, 1, 2] rfl (vX2_tour X hf)
def fX2_tellDam_p32 (D : aD) (h : aH) (a0 : Option Nat) : Option (Int32 × aH) :=
  (aIs h 1 a0).bind fun _ =>
  bnd2 (fX2_err D h a0 (1 : Int32)) fun x2 h3 =>
  some (x2, h3)
theorem vX2_tellDam_p32 {h : aH} {a0 : Option Nat} {q : Int32} {g : aH} (X : aX p l R s m meth c D n0 s0 yX2_tellDam cX2_tellDam 4 85 5 (some .int) h0) (hf : fX2_tellDam_p32 D h a0 = some (q, g)) : V p l e R s m args below meth c D n0 s0 (aEnd D below args s h0 (.inr (some (.int q)), g)) h 32 [(0, false, va_rf a0)] [] := by
  have C := X.1
  unfold fX2_tellDam_p32 at hf
  refine v_aload_n (pc := 32) (j := 0) C dX2_tellDam_32 rfl rfl ?_
  refine v_iconst (pc := 33) (v := (1 : Int32)) C dX2_tellDam_33 rfl ?_
  obtain ⟨b1, eb1, hf⟩ := oB hf
  obtain ⟨rb1, _, kb1⟩ := aIs_eq eb1
  obtain ⟨x2, h3, ex2, hf⟩ := bnd2_eq hf
  refine v_call (pc := 34) (d_V (pc := 34) C (As := [.int (1 : Int32)]) (rest := []) rb1 kb1 nt_1 q2498 yi_X2_err_FigureSurveyModel yk_X2_err rfl (by decide) (by decide) (Nat.le_trans aw_0 (by decide)) rfl (mX2_err C.st ex2) dX2_tellDam_34) ?_
  cases hf
  exact v_ireturn (pc := 37) C X.2.1 X.2.2.1 X.2.2.2.1 rfl dX2_tellDam_37
def fX2_tellDam_p94 (D : aD) (K67 : aH → (Option Nat) → Int32 → Int32 → Option (Int32 × aH)) (h : aH) (a0 : Option Nat) (a4 : Int32) (t0 : Int32) (t1 : Int32) : Option (Int32 × aH) :=
  (some ((t0 + t1))).bind fun x1 =>
  K67 h a0 x1 (a4 + 1)
theorem vX2_tellDam_p94 {h : aH} {K67 : aH → (Option Nat) → Int32 → Int32 → Option (Int32 × aH)} {a0 : Option Nat} {a4 : Int32} {t0 : Int32} {t1 : Int32} {q : Int32} {g : aH} (X : aX p l R s m meth c D n0 s0 yX2_tellDam cX2_tellDam 4 85 5 (some .int) h0) (k67 : ∀ (h : aH) (a0 : Option Nat) (a3 : Int32) (a4 : Int32) (q : Int32) (g : aH), K67 h a0 a3 a4 = some (q, g) → V p l e R s m args below meth c D n0 s0 (aEnd D below args s h0 (.inr (some (.int q)), g)) h 67 [(0, false, va_rf a0), (3, false, .int a3), (4, false, .int a4)] []) (hf : fX2_tellDam_p94 D K67 h a0 a4 t0 t1 = some (q, g)) : V p l e R s m args below meth c D n0 s0 (aEnd D below args s h0 (.inr (some (.int q)), g)) h 94 [(0, false, va_rf a0), (4, false, .int a4)] [.int t1, .int t0] := by
  have C := X.1
  unfold fX2_tellDam_p94 at hf
  refine v_iadd (pc := 94) C dX2_tellDam_94 ?_
  obtain ⟨x1, ex1, hf⟩ := oB hf
  refine vst (Option.some.inj ex1) (fun z => .int z :: []) ?_
  refine v_istore_n (pc := 95) (lv' := [(3, false, .int x1), (0, false, va_rf a0), (4, false, .int a4)]) C dX2_tellDam_95 rfl (by decide) rfl ?_
  refine v_iinc (pc := 96) (j := 2) (v := (a4 + 1)) (lv' := [(4, false, .int (a4 + 1)), (3, false, .int x1), (0, false, va_rf a0)]) C dX2_tellDam_96 rfl rfl (by decide) rfl ?_
  refine v_goto (pc := 99) (tgt := 67) C dX2_tellDam_99 rfl ?_
  exact V.sub [2, 1, 0] rfl (k67 _ _ _ _ _ _ hf)
def fX2_tellDam_p67 (D : aD) : Nat → aH → (Option Nat) → Int32 → Int32 → Option (Int32 × aH)
  | 0, _, _, _, _ => none
  | n + 1, h, a0, a3, a4 =>
  (gR h 1 4 a0).bind fun x1 =>
  (aIs h 15 x1).bind fun _ =>
  (fJ2_size D h x1).bind fun x3 =>
  if x3 ≤ a4 then
  (some (a3, h))
  else
  ((aIs h 1 a0).bind fun _ =>
  (fX2_isUnder D h a0 a4).bind fun x6 =>
  fX2_tellDam_p94 D (fX2_tellDam_p67 D n) h a0 a4 a3 (if x6 = 0 then (0 : Int32) else (1 : Int32)))
theorem vX2_tellDam_p67 (X : aX p l R s m meth c D n0 s0 yX2_tellDam cX2_tellDam 4 85 5 (some .int) h0) : ∀ (n : Nat) (h : aH) (a0 : Option Nat) (a3 : Int32) (a4 : Int32) (q : Int32) (g : aH), fX2_tellDam_p67 D n h a0 a3 a4 = some (q, g) → V p l e R s m args below meth c D n0 s0 (aEnd D below args s h0 (.inr (some (.int q)), g)) h 67 [(0, false, va_rf a0), (3, false, .int a3), (4, false, .int a4)] [] := by
  have C := X.1
  intro n
  induction n with
  | zero =>
    intro _ _ _ _ _ _ hf
    rw [fX2_tellDam_p67] at hf
    cases hf
  | succ n ih =>
    intro h a0 a3 a4 q g hf
    rw [fX2_tellDam_p67] at hf
    refine v_iload (pc := 67) (j := 2) C dX2_tellDam_67 rfl ?_
    refine v_aload_n (pc := 69) (j := 0) C dX2_tellDam_69 rfl rfl ?_
    obtain ⟨x1, ex1, hf⟩ := oB hf
    refine v_getF (pc := 70) C lk_X2_16 (gR_eq ex1) dX2_tellDam_70 ?_
    obtain ⟨b2, eb2, hf⟩ := oB hf
    obtain ⟨rb2, _, kb2⟩ := aIs_eq eb2
    obtain ⟨x3, ex3, hf⟩ := oB hf
    refine v_call (pc := 73) (d_V (pc := 73) C (As := []) (rest := [.int a4]) rb2 kb2 nt_15 q2502 yi_J2_size_java_util_ArrayList yk_J2_size rfl (by decide) (by decide) (Nat.le_trans (aw_i aw_0) (by decide)) rfl (mJ2_size C.st ex3) dX2_tellDam_73) ?_
    refine v_icmp_ge (pc := 76) (tgt := 102) C dX2_tellDam_76 rfl (fun hc => ?_) (fun hc => ?_)
    · rw [if_pos hc] at hf
      refine v_iload_n (pc := 102) (j := 1) C dX2_tellDam_102 rfl rfl ?_
      cases hf
      exact v_ireturn (pc := 103) C X.2.1 X.2.2.1 X.2.2.2.1 rfl dX2_tellDam_103
    · rw [if_neg hc] at hf
      refine v_iload_n (pc := 79) (j := 1) C dX2_tellDam_79 rfl rfl ?_
      refine v_aload_n (pc := 80) (j := 0) C dX2_tellDam_80 rfl rfl ?_
      refine v_iload (pc := 81) (j := 2) C dX2_tellDam_81 rfl ?_
      obtain ⟨b5, eb5, hf⟩ := oB hf
      obtain ⟨rb5, _, kb5⟩ := aIs_eq eb5
      obtain ⟨x6, ex6, hf⟩ := oB hf
      refine v_call (pc := 83) (d_V (pc := 83) C (As := [.int a4]) (rest := [.int a3]) rb5 kb5 nt_1 q2516 yi_X2_isUnder_FigureSurveyModel yk_X2_isUnder rfl (by decide) (by decide) (Nat.le_trans (aw_i aw_0) (by decide)) rfl (mX2_isUnder C.st ex6) dX2_tellDam_83) ?_
      refine v_if_eq (pc := 86) (tgt := 93) C dX2_tellDam_86 rfl (fun hc => ?_) (fun hc => ?_)
      · simp only [if_pos hc] at hf
        refine v_iconst (pc := 93) (v := (0 : Int32)) C dX2_tellDam_93 rfl ?_
        exact V.sub [0, 2] rfl (vX2_tellDam_p94 X ih hf)
      · simp only [if_neg hc] at hf
        refine v_iconst (pc := 89) (v := (1 : Int32)) C dX2_tellDam_89 rfl ?_
        refine v_goto (pc := 90) (tgt := 94) C dX2_tellDam_90 rfl ?_
        exact V.sub [0, 2] rfl (vX2_tellDam_p94 X ih hf)
def fX2_tellDam (D : aD) (h : aH) (a0 : Option Nat) (a1 : Int32) (a2 : Int32) : Option (Int32 × aH) :=
  (pF D h 1 0 a0 (.int (0 : Int32))).bind fun h1 =>
  (fX2_in D h1 a1 (0 : Int32) (1001 : Int32)).bind fun x3 =>
  if x3 = 0 then
  (fX2_tellDam_p32 D h1 a0)
  else
  ((gI h1 1 1 a0).bind fun x5 =>
  (fX2_in D h1 a2 (x5 + (1 : Int32)) (200 : Int32)).bind fun x7 =>
  if x7 = 0 then
  (fX2_tellDam_p32 D h1 a0)
  else
  ((gI h1 1 2 a0).bind fun x9 =>
  if x9 = (-1 : Int32) then
  ((pF D h1 1 2 a0 (.int a1)).bind fun h10 =>
  (pF D h10 1 3 a0 (.int a2)).bind fun h11 =>
  fX2_tellDam_p67 D FU h11 a0 (0 : Int32) (0 : Int32))
  else
  ((aIs h1 1 a0).bind fun _ =>
  bnd2 (fX2_err D h1 a0 (2 : Int32)) fun x13 h14 =>
  some (x13, h14))))
theorem vX2_tellDam {h : aH} {a0 : Option Nat} {a1 : Int32} {a2 : Int32} {q : Int32} {g : aH} (X : aX p l R s m meth c D n0 s0 yX2_tellDam cX2_tellDam 4 85 5 (some .int) h0) (hf : fX2_tellDam D h a0 a1 a2 = some (q, g)) : V p l e R s m args below meth c D n0 s0 (aEnd D below args s h0 (.inr (some (.int q)), g)) h 0 [(0, false, va_rf a0), (1, false, .int a1), (2, false, .int a2)] [] := by
  have C := X.1
  unfold fX2_tellDam at hf
  refine v_aload_n (pc := 0) (j := 0) C dX2_tellDam_0 rfl rfl ?_
  refine v_iconst (pc := 1) (v := (0 : Int32)) C dX2_tellDam_1 rfl ?_
  obtain ⟨h1, eh1, hf⟩ := oB hf
  refine v_putF (pc := 2) C lk_X2_69 tyX2 tyX2_ok nmX2 (tyX2_ok 0 (by decide)) rfl rfl eh1 dX2_tellDam_2 ?_
  refine v_iload_n (pc := 5) (j := 1) C dX2_tellDam_5 rfl rfl ?_
  refine v_iconst (pc := 6) (v := (0 : Int32)) C dX2_tellDam_6 rfl ?_
  refine v_sipush (pc := 7) (v := (1001 : Int32)) C dX2_tellDam_7 rfl ?_
  obtain ⟨x3, ex3, hf⟩ := oB hf
  refine v_call (pc := 10) (d_S (pc := 10) C (As := [.int a1, .int (0 : Int32), .int (1001 : Int32)]) (rest := []) q2495 q2496 yk_X2_in rfl (by decide) (by decide) (Nat.le_trans aw_0 (by decide)) rfl (mX2_in C.st ex3) dX2_tellDam_10) ?_
  refine v_if_eq (pc := 13) (tgt := 32) C dX2_tellDam_13 rfl (fun hc => ?_) (fun hc => ?_)
  · rw [if_pos hc] at hf
    exact V.sub [0] rfl (vX2_tellDam_p32 X hf)
  · rw [if_neg hc] at hf
    refine v_iload_n (pc := 16) (j := 2) C dX2_tellDam_16 rfl rfl ?_
    refine v_aload_n (pc := 17) (j := 0) C dX2_tellDam_17 rfl rfl ?_
    obtain ⟨x5, ex5, hf⟩ := oB hf
    refine v_getF (pc := 18) C lk_X2_89 (gI_eq ex5) dX2_tellDam_18 ?_
    refine v_iconst (pc := 21) (v := (1 : Int32)) C dX2_tellDam_21 rfl ?_
    refine v_iadd (pc := 22) C dX2_tellDam_22 ?_
    refine v_sipush (pc := 23) (v := (200 : Int32)) C dX2_tellDam_23 rfl ?_
    obtain ⟨x7, ex7, hf⟩ := oB hf
    refine v_call (pc := 26) (d_S (pc := 26) C (As := [.int a2, .int (x5 + (1 : Int32)), .int (200 : Int32)]) (rest := []) q2495 q2496 yk_X2_in rfl (by decide) (by decide) (Nat.le_trans aw_0 (by decide)) rfl (mX2_in C.st ex7) dX2_tellDam_26) ?_
    refine v_if_ne (pc := 29) (tgt := 38) C dX2_tellDam_29 rfl (fun hc => ?_) (fun hc => ?_)
    · rw [if_neg hc] at hf
      refine v_aload_n (pc := 38) (j := 0) C dX2_tellDam_38 rfl rfl ?_
      obtain ⟨x9, ex9, hf⟩ := oB hf
      refine v_getF (pc := 39) C lk_X2_9 (gI_eq ex9) dX2_tellDam_39 ?_
      refine v_iconst (pc := 42) (v := (-1 : Int32)) C dX2_tellDam_42 rfl ?_
      refine v_icmp_eq (pc := 43) (tgt := 52) C dX2_tellDam_43 rfl (fun hc => ?_) (fun hc => ?_)
      · rw [if_pos hc] at hf
        refine v_aload_n (pc := 52) (j := 0) C dX2_tellDam_52 rfl rfl ?_
        refine v_iload_n (pc := 53) (j := 1) C dX2_tellDam_53 rfl rfl ?_
        obtain ⟨h10, eh10, hf⟩ := oB hf
        refine v_putF (pc := 54) C lk_X2_9 tyX2 tyX2_ok nmX2 (tyX2_ok 2 (by decide)) rfl rfl eh10 dX2_tellDam_54 ?_
        refine v_aload_n (pc := 57) (j := 0) C dX2_tellDam_57 rfl rfl ?_
        refine v_iload_n (pc := 58) (j := 2) C dX2_tellDam_58 rfl rfl ?_
        obtain ⟨h11, eh11, hf⟩ := oB hf
        refine v_putF (pc := 59) C lk_X2_92 tyX2 tyX2_ok nmX2 (tyX2_ok 3 (by decide)) rfl rfl eh11 dX2_tellDam_59 ?_
        refine v_iconst (pc := 62) (v := (0 : Int32)) C dX2_tellDam_62 rfl ?_
        refine v_istore_n (pc := 63) (lv' := [(3, false, .int (0 : Int32)), (0, false, va_rf a0), (1, false, .int a1), (2, false, .int a2)]) C dX2_tellDam_63 rfl (by decide) rfl ?_
        refine v_iconst (pc := 64) (v := (0 : Int32)) C dX2_tellDam_64 rfl ?_
        refine v_istore (pc := 65) (lv' := [(4, false, .int (0 : Int32)), (3, false, .int (0 : Int32)), (0, false, va_rf a0), (1, false, .int a1), (2, false, .int a2)]) C dX2_tellDam_65 (by decide) rfl ?_
        exact V.sub [2, 1, 0] rfl (vX2_tellDam_p67 X _ _ _ _ _ _ _ hf)
      · rw [if_neg hc] at hf
        refine v_aload_n (pc := 46) (j := 0) C dX2_tellDam_46 rfl rfl ?_
        refine v_iconst (pc := 47) (v := (2 : Int32)) C dX2_tellDam_47 rfl ?_
        obtain ⟨b12, eb12, hf⟩ := oB hf
        obtain ⟨rb12, _, kb12⟩ := aIs_eq eb12
        obtain ⟨x13, h14, ex13, hf⟩ := bnd2_eq hf
        refine v_call (pc := 48) (d_V (pc := 48) C (As := [.int (2 : Int32)]) (rest := []) rb12 kb12 nt_1 q2498 yi_X2_err_FigureSurveyModel yk_X2_err rfl (by decide) (by decide) (Nat.le_trans aw_0 (by decide)) rfl (mX2_err C.st ex13) dX2_tellDam_48) ?_
        cases hf
        exact v_ireturn (pc := 51) C X.2.1 X.2.2.1 X.2.2.2.1 rfl dX2_tellDam_51
    · rw [if_pos (Decidable.of_not_not hc)] at hf
      exact V.sub [0] rfl (vX2_tellDam_p32 X hf)
theorem mX2_tellDam {l : Launch} {D : aD} {h : aH} {a0 : Option Nat} {a1 : Int32} {a2 : Int32} {q : Int32} {g : aH} (hst : l.stackTraces = false) (hf : fX2_tellDam D h a0 a1 a2 = some (q, g)) : aM l D yX2_tellDam cX2_tellDam 5 (some .int) 4 85 [va_rf a0, .int a1, .int a2] h (.inr (some (.int q)), g) :=
  aM.ofX [(false, va_rf a0), (false, .int a1), (false, .int a2)] rfl (ap_r (ap_c rfl (ap_c rfl ap_0))) (by decide +kernel) hst (al_of (aw_r (aw_i (aw_i aw_0))) (by decide)) fun p e s m args below meth c X => V.sub (lv' := [(0, false, va_rf a0), (1, false, .int a1), (2, false, .int a2)]) [0, 1, 2] rfl (vX2_tellDam X hf)
def fX2_isDrowned (D : aD) (h : aH) (a0 : Option Nat) (a1 : Int32) : Option (Int32 × aH) :=
  (pF D h 1 0 a0 (.int (0 : Int32))).bind fun h1 =>
  (aIs h1 1 a0).bind fun _ =>
  (fX2_noPanel D h1 a0 a1).bind fun x3 =>
  if x3 = 0 then
  ((aIs h1 1 a0).bind fun _ =>
  (fX2_drowned D h1 a0 a1).bind fun x6 =>
  (ckZ x6).bind fun _ =>
  some (x6, h1))
  else
  ((aIs h1 1 a0).bind fun _ =>
  bnd2 (fX2_err D h1 a0 (1 : Int32)) fun x10 h11 =>
  if x10 ≤ 0 then
  (some ((0 : Int32), h11))
  else
  (some ((1 : Int32), h11)))
theorem vX2_isDrowned {h : aH} {a0 : Option Nat} {a1 : Int32} {q : Int32} {g : aH} (X : aX p l R s m meth c D n0 s0 yX2_isDrowned cX2_isDrowned 5 106 2 (some .boolean) h0) (hf : fX2_isDrowned D h a0 a1 = some (q, g)) : V p l e R s m args below meth c D n0 s0 (aEnd D below args s h0 (.inr (some (.int q)), g)) h 0 [(0, false, va_rf a0), (1, false, .int a1)] [] := by
  have C := X.1
  unfold fX2_isDrowned at hf
  refine v_aload_n (pc := 0) (j := 0) C dX2_isDrowned_0 rfl rfl ?_
  refine v_iconst (pc := 1) (v := (0 : Int32)) C dX2_isDrowned_1 rfl ?_
  obtain ⟨h1, eh1, hf⟩ := oB hf
  refine v_putF (pc := 2) C lk_X2_69 tyX2 tyX2_ok nmX2 (tyX2_ok 0 (by decide)) rfl rfl eh1 dX2_isDrowned_2 ?_
  refine v_aload_n (pc := 5) (j := 0) C dX2_isDrowned_5 rfl rfl ?_
  refine v_iload_n (pc := 6) (j := 1) C dX2_isDrowned_6 rfl rfl ?_
  obtain ⟨b2, eb2, hf⟩ := oB hf
  obtain ⟨rb2, _, kb2⟩ := aIs_eq eb2
  obtain ⟨x3, ex3, hf⟩ := oB hf
  refine v_call (pc := 7) (d_V (pc := 7) C (As := [.int a1]) (rest := []) rb2 kb2 nt_1 q2508 yi_X2_noPanel_FigureSurveyModel yk_X2_noPanel rfl (by decide) (by decide) (Nat.le_trans aw_0 (by decide)) rfl (mX2_noPanel C.st ex3) dX2_isDrowned_7) ?_
  refine v_if_eq (pc := 10) (tgt := 29) C dX2_isDrowned_10 rfl (fun hc => ?_) (fun hc => ?_)
  · rw [if_pos hc] at hf
    refine v_aload_n (pc := 29) (j := 0) C dX2_isDrowned_29 rfl rfl ?_
    refine v_iload_n (pc := 30) (j := 1) C dX2_isDrowned_30 rfl rfl ?_
    obtain ⟨b5, eb5, hf⟩ := oB hf
    obtain ⟨rb5, _, kb5⟩ := aIs_eq eb5
    obtain ⟨x6, ex6, hf⟩ := oB hf
    refine v_call (pc := 31) (d_V (pc := 31) C (As := [.int a1]) (rest := []) rb5 kb5 nt_1 q2512 yi_X2_drowned_FigureSurveyModel yk_X2_drowned rfl (by decide) (by decide) (Nat.le_trans aw_0 (by decide)) rfl (mX2_drowned C.st ex6) dX2_isDrowned_31) ?_
    obtain ⟨_, e8, hf⟩ := oB hf
    cases hf
    exact v_zreturn (pc := 34) C X.2.1 X.2.2.1 X.2.2.2.1 (ckZ_eq e8) rfl dX2_isDrowned_34
  · rw [if_neg hc] at hf
    refine v_aload_n (pc := 13) (j := 0) C dX2_isDrowned_13 rfl rfl ?_
    refine v_iconst (pc := 14) (v := (1 : Int32)) C dX2_isDrowned_14 rfl ?_
    obtain ⟨b9, eb9, hf⟩ := oB hf
    obtain ⟨rb9, _, kb9⟩ := aIs_eq eb9
    obtain ⟨x10, h11, ex10, hf⟩ := bnd2_eq hf
    refine v_call (pc := 15) (d_V (pc := 15) C (As := [.int (1 : Int32)]) (rest := []) rb9 kb9 nt_1 q2498 yi_X2_err_FigureSurveyModel yk_X2_err rfl (by decide) (by decide) (Nat.le_trans aw_0 (by decide)) rfl (mX2_err C.st ex10) dX2_isDrowned_15) ?_
    refine v_if_le (pc := 18) (tgt := 25) C dX2_isDrowned_18 rfl (fun hc => ?_) (fun hc => ?_)
    · rw [if_pos hc] at hf
      refine v_iconst (pc := 25) (v := (0 : Int32)) C dX2_isDrowned_25 rfl ?_
      refine v_goto (pc := 26) (tgt := 34) C dX2_isDrowned_26 rfl ?_
      cases hf
      exact v_zreturn (pc := 34) C X.2.1 X.2.2.1 X.2.2.2.1 (by decide) rfl dX2_isDrowned_34
    · rw [if_neg hc] at hf
      refine v_iconst (pc := 21) (v := (1 : Int32)) C dX2_isDrowned_21 rfl ?_
      refine v_goto (pc := 22) (tgt := 34) C dX2_isDrowned_22 rfl ?_
      cases hf
      exact v_zreturn (pc := 34) C X.2.1 X.2.2.1 X.2.2.2.1 (by decide) rfl dX2_isDrowned_34
theorem mX2_isDrowned {l : Launch} {D : aD} {h : aH} {a0 : Option Nat} {a1 : Int32} {q : Int32} {g : aH} (hst : l.stackTraces = false) (hf : fX2_isDrowned D h a0 a1 = some (q, g)) : aM l D yX2_isDrowned cX2_isDrowned 2 (some .boolean) 5 106 [va_rf a0, .int a1] h (.inr (some (.int q)), g) :=
  aM.ofX [(false, va_rf a0), (false, .int a1)] rfl (ap_r (ap_c rfl ap_0)) (by decide +kernel) hst (al_of (aw_r (aw_i aw_0)) (by decide)) fun p e s m args below meth c X => V.sub (lv' := [(0, false, va_rf a0), (1, false, .int a1)]) [0, 1] rfl (vX2_isDrowned X hf)
def fX2_recordFirst_p117 (D : aD) (K9 : aH → (Option Nat) → Int32 → Int32 → Option (Int32 × aH)) (h : aH) (a0 : Option Nat) (a1 : Int32) (a2 : Int32) : Option (Int32 × aH) :=
  K9 h a0 a1 (a2 + 1)
theorem vX2_recordFirst_p117 {h : aH} {K9 : aH → (Option Nat) → Int32 → Int32 → Option (Int32 × aH)} {a0 : Option Nat} {a1 : Int32} {a2 : Int32} {q : Int32} {g : aH} (X : aX p l R s m meth c D n0 s0 yX2_recordFirst cX2_recordFirst 8 187 4 (some .int) h0) (k9 : ∀ (h : aH) (a0 : Option Nat) (a1 : Int32) (a2 : Int32) (q : Int32) (g : aH), K9 h a0 a1 a2 = some (q, g) → V p l e R s m args below meth c D n0 s0 (aEnd D below args s h0 (.inr (some (.int q)), g)) h 9 [(0, false, va_rf a0), (1, false, .int a1), (2, false, .int a2)] []) (hf : fX2_recordFirst_p117 D K9 h a0 a1 a2 = some (q, g)) : V p l e R s m args below meth c D n0 s0 (aEnd D below args s h0 (.inr (some (.int q)), g)) h 117 [(0, false, va_rf a0), (1, false, .int a1), (2, false, .int a2)] [] := by
  have C := X.1
  unfold fX2_recordFirst_p117 at hf
  refine v_iinc (pc := 117) (j := 2) (v := (a2 + 1)) (lv' := [(2, false, .int (a2 + 1)), (0, false, va_rf a0), (1, false, .int a1)]) C dX2_recordFirst_117 rfl rfl (by decide) rfl ?_
  refine v_goto (pc := 120) (tgt := 9) C dX2_recordFirst_120 rfl ?_
  exact V.sub [1, 2, 0] rfl (k9 _ _ _ _ _ _ hf)
def fX2_recordFirst_p115 (D : aD) (K9 : aH → (Option Nat) → Int32 → Int32 → Option (Int32 × aH)) (h : aH) (a0 : Option Nat) (a2 : Int32) : Option (Int32 × aH) :=
  fX2_recordFirst_p117 D K9 h a0 a2 a2
theorem vX2_recordFirst_p115 {h : aH} {K9 : aH → (Option Nat) → Int32 → Int32 → Option (Int32 × aH)} {a0 : Option Nat} {a2 : Int32} {q : Int32} {g : aH} (X : aX p l R s m meth c D n0 s0 yX2_recordFirst cX2_recordFirst 8 187 4 (some .int) h0) (k9 : ∀ (h : aH) (a0 : Option Nat) (a1 : Int32) (a2 : Int32) (q : Int32) (g : aH), K9 h a0 a1 a2 = some (q, g) → V p l e R s m args below meth c D n0 s0 (aEnd D below args s h0 (.inr (some (.int q)), g)) h 9 [(0, false, va_rf a0), (1, false, .int a1), (2, false, .int a2)] []) (hf : fX2_recordFirst_p115 D K9 h a0 a2 = some (q, g)) : V p l e R s m args below meth c D n0 s0 (aEnd D below args s h0 (.inr (some (.int q)), g)) h 115 [(0, false, va_rf a0), (2, false, .int a2)] [] := by
  have C := X.1
  unfold fX2_recordFirst_p115 at hf
  refine v_iload_n (pc := 115) (j := 1) C dX2_recordFirst_115 rfl rfl ?_
  refine v_istore_n (pc := 116) (lv' := [(1, false, .int a2), (0, false, va_rf a0), (2, false, .int a2)]) C dX2_recordFirst_116 rfl (by decide) rfl ?_
  exact V.sub [1, 0, 2] rfl (vX2_recordFirst_p117 X k9 hf)
def fX2_recordFirst_p93 (D : aD) (K9 : aH → (Option Nat) → Int32 → Int32 → Option (Int32 × aH)) (h : aH) (a0 : Option Nat) (a1 : Int32) (a2 : Int32) (t0 : Int32) : Option (Int32 × aH) :=
  if 0 < t0 then
  (fX2_recordFirst_p115 D K9 h a0 a2)
  else
  (if t0 = 0 then
  ((aIs h 1 a0).bind fun _ =>
  bnd2 (fX2_genuineOn D h a0 a2) fun x2 h3 =>
  (aIs h3 1 a0).bind fun _ =>
  bnd2 (fX2_genuineOn D h3 a0 a1) fun x5 h6 =>
  if x2 ≤ x5 then
  (fX2_recordFirst_p117 D K9 h6 a0 a1 a2)
  else
  (fX2_recordFirst_p115 D K9 h6 a0 a2))
  else
  (fX2_recordFirst_p117 D K9 h a0 a1 a2))
theorem vX2_recordFirst_p93 {h : aH} {K9 : aH → (Option Nat) → Int32 → Int32 → Option (Int32 × aH)} {a0 : Option Nat} {a1 : Int32} {a2 : Int32} {t0 : Int32} {q : Int32} {g : aH} (X : aX p l R s m meth c D n0 s0 yX2_recordFirst cX2_recordFirst 8 187 4 (some .int) h0) (k9 : ∀ (h : aH) (a0 : Option Nat) (a1 : Int32) (a2 : Int32) (q : Int32) (g : aH), K9 h a0 a1 a2 = some (q, g) → V p l e R s m args below meth c D n0 s0 (aEnd D below args s h0 (.inr (some (.int q)), g)) h 9 [(0, false, va_rf a0), (1, false, .int a1), (2, false, .int a2)] []) (hf : fX2_recordFirst_p93 D K9 h a0 a1 a2 t0 = some (q, g)) : V p l e R s m args below meth c D n0 s0 (aEnd D below args s h0 (.inr (some (.int q)), g)) h 93 [(0, false, va_rf a0), (1, false, .int a1), (2, false, .int a2)] [.int t0] := by
  have C := X.1
  unfold fX2_recordFirst_p93 at hf
  refine v_istore_n (pc := 93) (lv' := [(3, false, .int t0), (0, false, va_rf a0), (1, false, .int a1), (2, false, .int a2)]) C dX2_recordFirst_93 rfl (by decide) rfl ?_
  refine v_iload_n (pc := 94) (j := 0) C dX2_recordFirst_94 rfl rfl ?_
  refine v_if_gt (pc := 95) (tgt := 115) C dX2_recordFirst_95 rfl (fun hc => ?_) (fun hc => ?_)
  · rw [if_pos hc] at hf
    exact V.sub [1, 3] rfl (vX2_recordFirst_p115 X k9 hf)
  · rw [if_neg hc] at hf
    refine v_iload_n (pc := 98) (j := 0) C dX2_recordFirst_98 rfl rfl ?_
    refine v_if_ne (pc := 99) (tgt := 117) C dX2_recordFirst_99 rfl (fun hc => ?_) (fun hc => ?_)
    · rw [if_neg hc] at hf
      exact V.sub [1, 2, 3] rfl (vX2_recordFirst_p117 X k9 hf)
    · rw [if_pos (Decidable.of_not_not hc)] at hf
      refine v_aload_n (pc := 102) (j := 1) C dX2_recordFirst_102 rfl rfl ?_
      refine v_iload_n (pc := 103) (j := 3) C dX2_recordFirst_103 rfl rfl ?_
      obtain ⟨b1, eb1, hf⟩ := oB hf
      obtain ⟨rb1, _, kb1⟩ := aIs_eq eb1
      obtain ⟨x2, h3, ex2, hf⟩ := bnd2_eq hf
      refine v_call (pc := 104) (d_V (pc := 104) C (As := [.int a2]) (rest := []) rb1 kb1 nt_1 q2874 yi_X2_genuineOn_FigureSurveyModel yk_X2_genuineOn rfl (by decide) (by decide) (Nat.le_trans aw_0 (by decide)) rfl (mX2_genuineOn C.st ex2) dX2_recordFirst_104) ?_
      refine v_aload_n (pc := 107) (j := 1) C dX2_recordFirst_107 rfl rfl ?_
      refine v_iload_n (pc := 108) (j := 2) C dX2_recordFirst_108 rfl rfl ?_
      obtain ⟨b4, eb4, hf⟩ := oB hf
      obtain ⟨rb4, _, kb4⟩ := aIs_eq eb4
      obtain ⟨x5, h6, ex5, hf⟩ := bnd2_eq hf
      refine v_call (pc := 109) (d_V (pc := 109) C (As := [.int a1]) (rest := [.int x2]) rb4 kb4 nt_1 q2874 yi_X2_genuineOn_FigureSurveyModel yk_X2_genuineOn rfl (by decide) (by decide) (Nat.le_trans (aw_i aw_0) (by decide)) rfl (mX2_genuineOn C.st ex5) dX2_recordFirst_109) ?_
      refine v_icmp_le (pc := 112) (tgt := 117) C dX2_recordFirst_112 rfl (fun hc => ?_) (fun hc => ?_)
      · rw [if_pos hc] at hf
        exact V.sub [1, 2, 3] rfl (vX2_recordFirst_p117 X k9 hf)
      · rw [if_neg hc] at hf
        exact V.sub [1, 3] rfl (vX2_recordFirst_p115 X k9 hf)
def fX2_recordFirst_p9 (D : aD) : Nat → aH → (Option Nat) → Int32 → Int32 → Option (Int32 × aH)
  | 0, _, _, _, _ => none
  | n + 1, h, a0, a1, a2 =>
  (gR h 1 4 a0).bind fun x1 =>
  (aIs h 15 x1).bind fun _ =>
  (fJ2_size D h x1).bind fun x3 =>
  if x3 ≤ a2 then
  (some (a1, h))
  else
  ((aIs h 1 a0).bind fun _ =>
  (fX2_isUnder D h a0 a2).bind fun x6 =>
  if x6 = 0 then
  (fX2_recordFirst_p117 D (fX2_recordFirst_p9 D n) h a0 a1 a2)
  else
  ((aIs h 1 a0).bind fun _ =>
  (fX2_drowned D h a0 a2).bind fun x9 =>
  if x9 = 0 then
  ((gR h 1 4 a0).bind fun x11 =>
  (aIs h 15 x11).bind fun _ =>
  (fJ2_get D h x11 a2).bind fun x13 =>
  (aCast h [100] x13).bind fun _ =>
  (eI h x13 (1 : Int32)).bind fun x16 =>
  if x16 = (15 : Int32) then
  (fX2_recordFirst_p117 D (fX2_recordFirst_p9 D n) h a0 a1 a2)
  else
  (if a1 = (-1 : Int32) then
  (fX2_recordFirst_p93 D (fX2_recordFirst_p9 D n) h a0 a1 a2 (1 : Int32))
  else
  ((gR h 1 4 a0).bind fun x17 =>
  (aIs h 15 x17).bind fun _ =>
  (fJ2_get D h x17 a1).bind fun x19 =>
  (aCast h [100] x19).bind fun _ =>
  (eI h x19 (0 : Int32)).bind fun x22 =>
  (gR h 1 4 a0).bind fun x23 =>
  (aIs h 15 x23).bind fun _ =>
  (fJ2_get D h x23 a2).bind fun x25 =>
  (aCast h [100] x25).bind fun _ =>
  (eI h x25 (0 : Int32)).bind fun x28 =>
  fX2_recordFirst_p93 D (fX2_recordFirst_p9 D n) h a0 a1 a2 (x22 - x28))))
  else
  (fX2_recordFirst_p117 D (fX2_recordFirst_p9 D n) h a0 a1 a2)))
theorem vX2_recordFirst_p9 (X : aX p l R s m meth c D n0 s0 yX2_recordFirst cX2_recordFirst 8 187 4 (some .int) h0) : ∀ (n : Nat) (h : aH) (a0 : Option Nat) (a1 : Int32) (a2 : Int32) (q : Int32) (g : aH), fX2_recordFirst_p9 D n h a0 a1 a2 = some (q, g) → V p l e R s m args below meth c D n0 s0 (aEnd D below args s h0 (.inr (some (.int q)), g)) h 9 [(0, false, va_rf a0), (1, false, .int a1), (2, false, .int a2)] [] := by
  have C := X.1
  intro n
  induction n with
  | zero =>
    intro _ _ _ _ _ _ hf
    rw [fX2_recordFirst_p9] at hf
    cases hf
  | succ n ih =>
    intro h a0 a1 a2 q g hf
    rw [fX2_recordFirst_p9] at hf
    refine v_iload_n (pc := 9) (j := 2) C dX2_recordFirst_9 rfl rfl ?_
    refine v_aload_n (pc := 10) (j := 0) C dX2_recordFirst_10 rfl rfl ?_
    obtain ⟨x1, ex1, hf⟩ := oB hf
    refine v_getF (pc := 11) C lk_X2_16 (gR_eq ex1) dX2_recordFirst_11 ?_
    obtain ⟨b2, eb2, hf⟩ := oB hf
    obtain ⟨rb2, _, kb2⟩ := aIs_eq eb2
    obtain ⟨x3, ex3, hf⟩ := oB hf
    refine v_call (pc := 14) (d_V (pc := 14) C (As := []) (rest := [.int a2]) rb2 kb2 nt_15 q2502 yi_J2_size_java_util_ArrayList yk_J2_size rfl (by decide) (by decide) (Nat.le_trans (aw_i aw_0) (by decide)) rfl (mJ2_size C.st ex3) dX2_recordFirst_14) ?_
    refine v_icmp_ge (pc := 17) (tgt := 123) C dX2_recordFirst_17 rfl (fun hc => ?_) (fun hc => ?_)
    · rw [if_pos hc] at hf
      refine v_iload_n (pc := 123) (j := 1) C dX2_recordFirst_123 rfl rfl ?_
      cases hf
      exact v_ireturn (pc := 124) C X.2.1 X.2.2.1 X.2.2.2.1 rfl dX2_recordFirst_124
    · rw [if_neg hc] at hf
      refine v_aload_n (pc := 20) (j := 0) C dX2_recordFirst_20 rfl rfl ?_
      refine v_iload_n (pc := 21) (j := 2) C dX2_recordFirst_21 rfl rfl ?_
      obtain ⟨b5, eb5, hf⟩ := oB hf
      obtain ⟨rb5, _, kb5⟩ := aIs_eq eb5
      obtain ⟨x6, ex6, hf⟩ := oB hf
      refine v_call (pc := 22) (d_V (pc := 22) C (As := [.int a2]) (rest := []) rb5 kb5 nt_1 q2516 yi_X2_isUnder_FigureSurveyModel yk_X2_isUnder rfl (by decide) (by decide) (Nat.le_trans aw_0 (by decide)) rfl (mX2_isUnder C.st ex6) dX2_recordFirst_22) ?_
      refine v_if_eq (pc := 25) (tgt := 117) C dX2_recordFirst_25 rfl (fun hc => ?_) (fun hc => ?_)
      · rw [if_pos hc] at hf
        exact V.sub [0, 1, 2] rfl (vX2_recordFirst_p117 X ih hf)
      · rw [if_neg hc] at hf
        refine v_aload_n (pc := 28) (j := 0) C dX2_recordFirst_28 rfl rfl ?_
        refine v_iload_n (pc := 29) (j := 2) C dX2_recordFirst_29 rfl rfl ?_
        obtain ⟨b8, eb8, hf⟩ := oB hf
        obtain ⟨rb8, _, kb8⟩ := aIs_eq eb8
        obtain ⟨x9, ex9, hf⟩ := oB hf
        refine v_call (pc := 30) (d_V (pc := 30) C (As := [.int a2]) (rest := []) rb8 kb8 nt_1 q2512 yi_X2_drowned_FigureSurveyModel yk_X2_drowned rfl (by decide) (by decide) (Nat.le_trans aw_0 (by decide)) rfl (mX2_drowned C.st ex9) dX2_recordFirst_30) ?_
        refine v_if_ne (pc := 33) (tgt := 117) C dX2_recordFirst_33 rfl (fun hc => ?_) (fun hc => ?_)
        · rw [if_neg hc] at hf
          exact V.sub [0, 1, 2] rfl (vX2_recordFirst_p117 X ih hf)
        · rw [if_pos (Decidable.of_not_not hc)] at hf
          refine v_aload_n (pc := 36) (j := 0) C dX2_recordFirst_36 rfl rfl ?_
          obtain ⟨x11, ex11, hf⟩ := oB hf
          refine v_getF (pc := 37) C lk_X2_16 (gR_eq ex11) dX2_recordFirst_37 ?_
          refine v_iload_n (pc := 40) (j := 2) C dX2_recordFirst_40 rfl rfl ?_
          obtain ⟨b12, eb12, hf⟩ := oB hf
          obtain ⟨rb12, _, kb12⟩ := aIs_eq eb12
          obtain ⟨x13, ex13, hf⟩ := oB hf
          refine v_call (pc := 41) (d_V (pc := 41) C (As := [.int a2]) (rest := []) rb12 kb12 nt_15 q2520 yi_J2_get_java_util_ArrayList yk_J2_get rfl (by decide) (by decide) (Nat.le_trans aw_0 (by decide)) rfl (mJ2_get C.st ex13) dX2_recordFirst_41) ?_
          obtain ⟨_, e15, hf⟩ := oB hf
          refine v_cast (pc := 44) C q2521 ct__I e15 dX2_recordFirst_44 ?_
          refine v_iconst (pc := 47) (v := (1 : Int32)) C dX2_recordFirst_47 rfl ?_
          obtain ⟨x16, ex16, hf⟩ := oB hf
          refine v_iaload (pc := 48) C ex16 dX2_recordFirst_48 ?_
          refine v_bipush (pc := 49) (v := (15 : Int32)) C dX2_recordFirst_49 rfl ?_
          refine v_icmp_ne (pc := 51) (tgt := 57) C dX2_recordFirst_51 rfl (fun hc => ?_) (fun hc => ?_)
          · rw [if_neg hc] at hf
            refine v_iload_n (pc := 57) (j := 1) C dX2_recordFirst_57 rfl rfl ?_
            refine v_iconst (pc := 58) (v := (-1 : Int32)) C dX2_recordFirst_58 rfl ?_
            refine v_icmp_ne (pc := 59) (tgt := 66) C dX2_recordFirst_59 rfl (fun hc => ?_) (fun hc => ?_)
            · rw [if_neg hc] at hf
              refine v_aload_n (pc := 66) (j := 0) C dX2_recordFirst_66 rfl rfl ?_
              obtain ⟨x17, ex17, hf⟩ := oB hf
              refine v_getF (pc := 67) C lk_X2_16 (gR_eq ex17) dX2_recordFirst_67 ?_
              refine v_iload_n (pc := 70) (j := 1) C dX2_recordFirst_70 rfl rfl ?_
              obtain ⟨b18, eb18, hf⟩ := oB hf
              obtain ⟨rb18, _, kb18⟩ := aIs_eq eb18
              obtain ⟨x19, ex19, hf⟩ := oB hf
              refine v_call (pc := 71) (d_V (pc := 71) C (As := [.int a1]) (rest := []) rb18 kb18 nt_15 q2520 yi_J2_get_java_util_ArrayList yk_J2_get rfl (by decide) (by decide) (Nat.le_trans aw_0 (by decide)) rfl (mJ2_get C.st ex19) dX2_recordFirst_71) ?_
              obtain ⟨_, e21, hf⟩ := oB hf
              refine v_cast (pc := 74) C q2521 ct__I e21 dX2_recordFirst_74 ?_
              refine v_iconst (pc := 77) (v := (0 : Int32)) C dX2_recordFirst_77 rfl ?_
              obtain ⟨x22, ex22, hf⟩ := oB hf
              refine v_iaload (pc := 78) C ex22 dX2_recordFirst_78 ?_
              refine v_aload_n (pc := 79) (j := 0) C dX2_recordFirst_79 rfl rfl ?_
              obtain ⟨x23, ex23, hf⟩ := oB hf
              refine v_getF (pc := 80) C lk_X2_16 (gR_eq ex23) dX2_recordFirst_80 ?_
              refine v_iload_n (pc := 83) (j := 2) C dX2_recordFirst_83 rfl rfl ?_
              obtain ⟨b24, eb24, hf⟩ := oB hf
              obtain ⟨rb24, _, kb24⟩ := aIs_eq eb24
              obtain ⟨x25, ex25, hf⟩ := oB hf
              refine v_call (pc := 84) (d_V (pc := 84) C (As := [.int a2]) (rest := [.int x22]) rb24 kb24 nt_15 q2520 yi_J2_get_java_util_ArrayList yk_J2_get rfl (by decide) (by decide) (Nat.le_trans (aw_i aw_0) (by decide)) rfl (mJ2_get C.st ex25) dX2_recordFirst_84) ?_
              obtain ⟨_, e27, hf⟩ := oB hf
              refine v_cast (pc := 87) C q2521 ct__I e27 dX2_recordFirst_87 ?_
              refine v_iconst (pc := 90) (v := (0 : Int32)) C dX2_recordFirst_90 rfl ?_
              obtain ⟨x28, ex28, hf⟩ := oB hf
              refine v_iaload (pc := 91) C ex28 dX2_recordFirst_91 ?_
              refine v_isub (pc := 92) C dX2_recordFirst_92 ?_
              exact V.sub [0, 1, 2] rfl (vX2_recordFirst_p93 X ih hf)
            · rw [if_pos (Decidable.of_not_not hc)] at hf
              refine v_iconst (pc := 62) (v := (1 : Int32)) C dX2_recordFirst_62 rfl ?_
              refine v_goto (pc := 63) (tgt := 93) C dX2_recordFirst_63 rfl ?_
              exact V.sub [0, 1, 2] rfl (vX2_recordFirst_p93 X ih hf)
          · rw [if_pos (Decidable.of_not_not hc)] at hf
            refine v_goto (pc := 54) (tgt := 117) C dX2_recordFirst_54 rfl ?_
            exact V.sub [0, 1, 2] rfl (vX2_recordFirst_p117 X ih hf)
def fX2_recordFirst (D : aD) (h : aH) (a0 : Option Nat) : Option (Int32 × aH) :=
  (pF D h 1 0 a0 (.int (0 : Int32))).bind fun h1 =>
  fX2_recordFirst_p9 D FU h1 a0 (-1 : Int32) (0 : Int32)
theorem vX2_recordFirst {h : aH} {a0 : Option Nat} {q : Int32} {g : aH} (X : aX p l R s m meth c D n0 s0 yX2_recordFirst cX2_recordFirst 8 187 4 (some .int) h0) (hf : fX2_recordFirst D h a0 = some (q, g)) : V p l e R s m args below meth c D n0 s0 (aEnd D below args s h0 (.inr (some (.int q)), g)) h 0 [(0, false, va_rf a0)] [] := by
  have C := X.1
  unfold fX2_recordFirst at hf
  refine v_aload_n (pc := 0) (j := 0) C dX2_recordFirst_0 rfl rfl ?_
  refine v_iconst (pc := 1) (v := (0 : Int32)) C dX2_recordFirst_1 rfl ?_
  obtain ⟨h1, eh1, hf⟩ := oB hf
  refine v_putF (pc := 2) C lk_X2_69 tyX2 tyX2_ok nmX2 (tyX2_ok 0 (by decide)) rfl rfl eh1 dX2_recordFirst_2 ?_
  refine v_iconst (pc := 5) (v := (-1 : Int32)) C dX2_recordFirst_5 rfl ?_
  refine v_istore_n (pc := 6) (lv' := [(1, false, .int (-1 : Int32)), (0, false, va_rf a0)]) C dX2_recordFirst_6 rfl (by decide) rfl ?_
  refine v_iconst (pc := 7) (v := (0 : Int32)) C dX2_recordFirst_7 rfl ?_
  refine v_istore_n (pc := 8) (lv' := [(2, false, .int (0 : Int32)), (1, false, .int (-1 : Int32)), (0, false, va_rf a0)]) C dX2_recordFirst_8 rfl (by decide) rfl ?_
  exact V.sub [2, 1, 0] rfl (vX2_recordFirst_p9 X _ _ _ _ _ _ _ hf)
theorem mX2_recordFirst {l : Launch} {D : aD} {h : aH} {a0 : Option Nat} {q : Int32} {g : aH} (hst : l.stackTraces = false) (hf : fX2_recordFirst D h a0 = some (q, g)) : aM l D yX2_recordFirst cX2_recordFirst 4 (some .int) 8 187 [va_rf a0] h (.inr (some (.int q)), g) :=
  aM.ofX [(false, va_rf a0)] rfl (ap_r ap_0) (by decide +kernel) hst (al_of (aw_r aw_0) (by decide)) fun p e s m args below meth c X => V.sub (lv' := [(0, false, va_rf a0)]) [0] rfl (vX2_recordFirst X hf)
def fX2_tried_G_p65 (D : aD) (REC : (Option Nat) → (Option Nat) → Int32 → Option (Int32)) (h : aH) (K24 : (Option Nat) → (Option Nat) → Int32 → Int32 → Int32 → Int32 → Option (Int32)) (a0 : Option Nat) (a1 : Option Nat) (a2 : Int32) (a3 : Int32) (a4 : Int32) (a5 : Int32) : Option (Int32) :=
  K24 a0 a1 a2 a3 a4 (a5 + 1)
theorem vX2_tried_G_p65 {h : aH} {K24 : (Option Nat) → (Option Nat) → Int32 → Int32 → Int32 → Int32 → Option (Int32)} {a0 : Option Nat} {a1 : Option Nat} {a2 : Int32} {a3 : Int32} {a4 : Int32} {a5 : Int32} {q : Int32} {REC : (Option Nat) → (Option Nat) → Int32 → Option (Int32)} {rf rl rfR rlR : Nat} (X : aX p l R s m meth c D n0 s0 yX2_tried cX2_tried rf rl 6 (some .int) h0) (hB9 : 4 ≤ rf) (hB8 : 88 ≤ rl) (hR9 : rfR + 1 ≤ rf) (hR8 : 8 + (6 + 11) + rlR ≤ rl) (hR : ∀ (a0 : Option Nat) (a1 : Option Nat) (a2 : Int32) (q : Int32), REC a0 a1 a2 = some q → aM l D yX2_tried cX2_tried 6 (some .int) rfR rlR [va_rf a0, va_rf a1, .int a2] h (.inr (some (.int q)), h)) (k24 : ∀ (a0 : Option Nat) (a1 : Option Nat) (a2 : Int32) (a3 : Int32) (a4 : Int32) (a5 : Int32) (q : Int32), K24 a0 a1 a2 a3 a4 a5 = some q → V p l e R s m args below meth c D n0 s0 (aEnd D below args s h0 (.inr (some (.int q)), h)) h 24 [(0, false, va_rf a0), (1, false, va_rf a1), (2, false, .int a2), (3, false, .int a3), (4, false, .int a4), (5, false, .int a5)] []) (hf : fX2_tried_G_p65 D REC h K24 a0 a1 a2 a3 a4 a5 = some q) : V p l e R s m args below meth c D n0 s0 (aEnd D below args s h0 (.inr (some (.int q)), h)) h 65 [(0, false, va_rf a0), (1, false, va_rf a1), (2, false, .int a2), (3, false, .int a3), (4, false, .int a4), (5, false, .int a5)] [] := by
  have C := X.1
  unfold fX2_tried_G_p65 at hf
  refine v_iinc (pc := 65) (j := 5) (v := (a5 + 1)) (lv' := [(5, false, .int (a5 + 1)), (0, false, va_rf a0), (1, false, va_rf a1), (2, false, .int a2), (3, false, .int a3), (4, false, .int a4)]) C dX2_tried_65 rfl rfl (by decide) rfl ?_
  refine v_goto (pc := 68) (tgt := 24) C dX2_tried_68 rfl ?_
  exact V.sub [1, 2, 3, 4, 5, 0] rfl (k24 _ _ _ _ _ _ _ hf)
def fX2_tried_G_p24 (D : aD) (REC : (Option Nat) → (Option Nat) → Int32 → Option (Int32)) (h : aH) : Nat → (Option Nat) → (Option Nat) → Int32 → Int32 → Int32 → Int32 → Option (Int32)
  | 0, _, _, _, _, _, _ => none
  | n + 1, a0, a1, a2, a3, a4, a5 =>
  if a3 ≤ a5 then
  (some a4)
  else
  (if ((a2 >>> (a5 &&& 31)) &&& (1 : Int32)) = 0 then
  ((aIs h 9 a1).bind fun _ =>
  (fX10_cost D h a1 a2 a5).bind fun x2 =>
  (aIs h 1 a0).bind fun _ =>
  (REC a0 a1 (a2 ||| ((1 : Int32) <<< (a5 &&& 31)))).bind fun x5 =>
  (fJ11_min D h a4 (x2 + x5)).bind fun x8 =>
  fX2_tried_G_p65 D REC h (fX2_tried_G_p24 D REC h n) a0 a1 a2 a3 x8 a5)
  else
  (fX2_tried_G_p65 D REC h (fX2_tried_G_p24 D REC h n) a0 a1 a2 a3 a4 a5))
theorem vX2_tried_G_p24 {h : aH} {REC : (Option Nat) → (Option Nat) → Int32 → Option (Int32)} {rf rl rfR rlR : Nat} (X : aX p l R s m meth c D n0 s0 yX2_tried cX2_tried rf rl 6 (some .int) h0) (hB9 : 4 ≤ rf) (hB8 : 88 ≤ rl) (hR9 : rfR + 1 ≤ rf) (hR8 : 8 + (6 + 11) + rlR ≤ rl) (hR : ∀ (a0 : Option Nat) (a1 : Option Nat) (a2 : Int32) (q : Int32), REC a0 a1 a2 = some q → aM l D yX2_tried cX2_tried 6 (some .int) rfR rlR [va_rf a0, va_rf a1, .int a2] h (.inr (some (.int q)), h)) : ∀ (n : Nat) (a0 : Option Nat) (a1 : Option Nat) (a2 : Int32) (a3 : Int32) (a4 : Int32) (a5 : Int32) (q : Int32), fX2_tried_G_p24 D REC h n a0 a1 a2 a3 a4 a5 = some q → V p l e R s m args below meth c D n0 s0 (aEnd D below args s h0 (.inr (some (.int q)), h)) h 24 [(0, false, va_rf a0), (1, false, va_rf a1), (2, false, .int a2), (3, false, .int a3), (4, false, .int a4), (5, false, .int a5)] [] := by
  have C := X.1
  intro n
  induction n with
  | zero =>
    intro _ _ _ _ _ _ _ hf
    rw [fX2_tried_G_p24] at hf
    cases hf
  | succ n ih =>
    intro a0 a1 a2 a3 a4 a5 q hf
    rw [fX2_tried_G_p24] at hf
    refine v_iload (pc := 24) (j := 5) C dX2_tried_24 rfl ?_
    refine v_iload_n (pc := 26) (j := 3) C dX2_tried_26 rfl rfl ?_
    refine v_icmp_ge (pc := 27) (tgt := 71) C dX2_tried_27 rfl (fun hc => ?_) (fun hc => ?_)
    · rw [if_pos hc] at hf
      refine v_iload (pc := 71) (j := 4) C dX2_tried_71 rfl ?_
      cases hf
      exact v_ireturn (pc := 73) C X.2.1 X.2.2.1 X.2.2.2.1 rfl dX2_tried_73
    · rw [if_neg hc] at hf
      refine v_iload_n (pc := 30) (j := 2) C dX2_tried_30 rfl rfl ?_
      refine v_iload (pc := 31) (j := 5) C dX2_tried_31 rfl ?_
      refine v_ishr (pc := 33) C dX2_tried_33 ?_
      refine v_iconst (pc := 34) (v := (1 : Int32)) C dX2_tried_34 rfl ?_
      refine v_iand (pc := 35) C dX2_tried_35 ?_
      refine v_if_ne (pc := 36) (tgt := 65) C dX2_tried_36 rfl (fun hc => ?_) (fun hc => ?_)
      · rw [if_neg hc] at hf
        exact V.sub [0, 1, 2, 3, 4, 5] rfl (vX2_tried_G_p65 X hB9 hB8 hR9 hR8 hR ih hf)
      · rw [if_pos (Decidable.of_not_not hc)] at hf
        refine v_iload (pc := 39) (j := 4) C dX2_tried_39 rfl ?_
        refine v_aload_n (pc := 41) (j := 1) C dX2_tried_41 rfl rfl ?_
        refine v_iload_n (pc := 42) (j := 2) C dX2_tried_42 rfl rfl ?_
        refine v_iload (pc := 43) (j := 5) C dX2_tried_43 rfl ?_
        obtain ⟨b1, eb1, hf⟩ := oB hf
        obtain ⟨rb1, _, kb1⟩ := aIs_eq eb1
        obtain ⟨x2, ex2, hf⟩ := oB hf
        refine v_call (pc := 45) (d_V (pc := 45) C (As := [.int a2, .int a5]) (rest := [.int a4]) rb1 kb1 nt_9 q2911 yi_X10_cost_FigureSurveyModel_Found yk_X10_cost rfl (Nat.le_trans (by decide) hB9) (Nat.le_trans (by decide) hB8) (Nat.le_trans (aw_i aw_0) (by decide)) rfl (mX10_cost C.st ex2) dX2_tried_45) ?_
        refine v_aload_n (pc := 48) (j := 0) C dX2_tried_48 rfl rfl ?_
        refine v_aload_n (pc := 49) (j := 1) C dX2_tried_49 rfl rfl ?_
        refine v_iload_n (pc := 50) (j := 2) C dX2_tried_50 rfl rfl ?_
        refine v_iconst (pc := 51) (v := (1 : Int32)) C dX2_tried_51 rfl ?_
        refine v_iload (pc := 52) (j := 5) C dX2_tried_52 rfl ?_
        refine v_ishl (pc := 54) C dX2_tried_54 ?_
        refine v_ior (pc := 55) C dX2_tried_55 ?_
        obtain ⟨b4, eb4, hf⟩ := oB hf
        obtain ⟨rb4, _, kb4⟩ := aIs_eq eb4
        obtain ⟨x5, ex5, hf⟩ := oB hf
        refine v_call (pc := 56) (d_V (pc := 56) C (As := [va_rf a1, .int (a2 ||| ((1 : Int32) <<< (a5 &&& 31)))]) (rest := [.int x2, .int a4]) rb4 kb4 nt_1 q2906 yi_X2_tried_FigureSurveyModel yk_X2_tried rfl hR9 hR8 (Nat.le_trans (aw_i (aw_i aw_0)) (by decide)) rfl (hR _ _ _ _ ex5) dX2_tried_56) ?_
        refine v_iadd (pc := 59) C dX2_tried_59 ?_
        obtain ⟨x8, ex8, hf⟩ := oB hf
        refine v_call (pc := 60) (d_S (pc := 60) C (As := [.int a4, .int (x2 + x5)]) (rest := []) q2661 q477 yk_J11_min rfl (Nat.le_trans (by decide) hB9) (Nat.le_trans (by decide) hB8) (Nat.le_trans aw_0 (by decide)) rfl (mJ11_min C.st ex8) dX2_tried_60) ?_
        refine v_istore (pc := 63) (lv' := [(4, false, .int x8), (0, false, va_rf a0), (1, false, va_rf a1), (2, false, .int a2), (3, false, .int a3), (5, false, .int a5)]) C dX2_tried_63 (by decide) rfl ?_
        exact V.sub [1, 2, 3, 4, 0, 5] rfl (vX2_tried_G_p65 X hB9 hB8 hR9 hR8 hR ih hf)
def fX2_tried_G (D : aD) (REC : (Option Nat) → (Option Nat) → Int32 → Option (Int32)) (h : aH) (a0 : Option Nat) (a1 : Option Nat) (a2 : Int32) : Option (Int32) :=
  (gR h 9 0 a1).bind fun x1 =>
  (eN h x1).bind fun x2 =>
  if a2 = (((1 : Int32) <<< (x2 &&& 31)) - (1 : Int32)) then
  (some (0 : Int32))
  else
  (fX2_tried_G_p24 D REC h FU a0 a1 a2 x2 (2147483647 : Int32) (0 : Int32))
theorem vX2_tried_G {h : aH} {a0 : Option Nat} {a1 : Option Nat} {a2 : Int32} {q : Int32} {REC : (Option Nat) → (Option Nat) → Int32 → Option (Int32)} {rf rl rfR rlR : Nat} (X : aX p l R s m meth c D n0 s0 yX2_tried cX2_tried rf rl 6 (some .int) h0) (hB9 : 4 ≤ rf) (hB8 : 88 ≤ rl) (hR9 : rfR + 1 ≤ rf) (hR8 : 8 + (6 + 11) + rlR ≤ rl) (hR : ∀ (a0 : Option Nat) (a1 : Option Nat) (a2 : Int32) (q : Int32), REC a0 a1 a2 = some q → aM l D yX2_tried cX2_tried 6 (some .int) rfR rlR [va_rf a0, va_rf a1, .int a2] h (.inr (some (.int q)), h)) (hf : fX2_tried_G D REC h a0 a1 a2 = some q) : V p l e R s m args below meth c D n0 s0 (aEnd D below args s h0 (.inr (some (.int q)), h)) h 0 [(0, false, va_rf a0), (1, false, va_rf a1), (2, false, .int a2)] [] := by
  have C := X.1
  unfold fX2_tried_G at hf
  refine v_aload_n (pc := 0) (j := 1) C dX2_tried_0 rfl rfl ?_
  obtain ⟨x1, ex1, hf⟩ := oB hf
  refine v_getF (pc := 1) C lk_X2_206 (gR_eq ex1) dX2_tried_1 ?_
  obtain ⟨x2, ex2, hf⟩ := oB hf
  refine v_alen (pc := 4) C ex2 dX2_tried_4 ?_
  refine v_istore_n (pc := 5) (lv' := [(3, false, .int x2), (0, false, va_rf a0), (1, false, va_rf a1), (2, false, .int a2)]) C dX2_tried_5 rfl (by decide) rfl ?_
  refine v_ldc (pc := 6) (v := (2147483647 : Int32)) C q2910 dX2_tried_6 ?_
  refine v_istore (pc := 8) (lv' := [(4, false, .int (2147483647 : Int32)), (3, false, .int x2), (0, false, va_rf a0), (1, false, va_rf a1), (2, false, .int a2)]) C dX2_tried_8 (by decide) rfl ?_
  refine v_iload_n (pc := 10) (j := 4) C dX2_tried_10 rfl rfl ?_
  refine v_iconst (pc := 11) (v := (1 : Int32)) C dX2_tried_11 rfl ?_
  refine v_iload_n (pc := 12) (j := 1) C dX2_tried_12 rfl rfl ?_
  refine v_ishl (pc := 13) C dX2_tried_13 ?_
  refine v_iconst (pc := 14) (v := (1 : Int32)) C dX2_tried_14 rfl ?_
  refine v_isub (pc := 15) C dX2_tried_15 ?_
  refine v_icmp_ne (pc := 16) (tgt := 21) C dX2_tried_16 rfl (fun hc => ?_) (fun hc => ?_)
  · rw [if_neg hc] at hf
    refine v_iconst (pc := 21) (v := (0 : Int32)) C dX2_tried_21 rfl ?_
    refine v_istore (pc := 22) (lv' := [(5, false, .int (0 : Int32)), (4, false, .int (2147483647 : Int32)), (3, false, .int x2), (0, false, va_rf a0), (1, false, va_rf a1), (2, false, .int a2)]) C dX2_tried_22 (by decide) rfl ?_
    exact V.sub [3, 4, 5, 2, 1, 0] rfl (vX2_tried_G_p24 X hB9 hB8 hR9 hR8 hR _ _ _ _ _ _ _ _ hf)
  · rw [if_pos (Decidable.of_not_not hc)] at hf
    refine v_iconst (pc := 19) (v := (0 : Int32)) C dX2_tried_19 rfl ?_
    cases hf
    exact v_ireturn (pc := 20) C X.2.1 X.2.2.1 X.2.2.2.1 rfl dX2_tried_20
def fX2_tried (D : aD) (h : aH) : Nat → (Option Nat) → (Option Nat) → Int32 → Option (Int32)
  | 0, _, _, _ => none
  | d + 1, a0, a1, a2 => fX2_tried_G D (fX2_tried D h d) h a0 a1 a2
theorem mX2_tried {l : Launch} {D : aD} {h : aH} (hst : l.stackTraces = false) : ∀ (d : Nat) (a0 : Option Nat) (a1 : Option Nat) (a2 : Int32) (q : Int32), fX2_tried D h d a0 a1 a2 = some q → aM l D yX2_tried cX2_tried 6 (some .int) (4 + d) (88 + 25 * d) [va_rf a0, va_rf a1, .int a2] h (.inr (some (.int q)), h) := by
  intro d
  induction d with
  | zero =>
    intro _ _ _ _ hf
    rw [fX2_tried] at hf
    cases hf
  | succ d ih =>
    intro a0 a1 a2 q hf
    rw [fX2_tried] at hf
    exact aM.ofX [(false, va_rf a0), (false, va_rf a1), (false, .int a2)] rfl (ap_r (ap_r (ap_c rfl ap_0))) (by decide +kernel) hst (al_of (aw_r (aw_r (aw_i aw_0))) (by decide)) fun p e s m args below meth c X => V.sub (lv' := [(0, false, va_rf a0), (1, false, va_rf a1), (2, false, .int a2)]) [0, 1, 2] rfl (vX2_tried_G X (by omega) (by omega) (Nat.le_refl _) (by omega) ih hf)
def fX2_errors_p117 (D : aD) (K9 : aH → (Option Nat) → Int32 → Int32 → Option (Int32 × aH)) (K48 : aH → (Option Nat) → Int32 → Int32 → (Option Nat) → Int32 → Int32 → Option (Int32 × aH)) (h : aH) (a0 : Option Nat) (a1 : Int32) (a2 : Int32) (a3 : Option Nat) (a5 : Int32) (t0 : Int32) (t1 : Int32) : Option (Int32 × aH) :=
  (some ((t0 + t1))).bind fun x1 =>
  K48 h a0 a1 a2 a3 x1 (a5 + 1)
theorem vX2_errors_p117 {h : aH} {K9 : aH → (Option Nat) → Int32 → Int32 → Option (Int32 × aH)} {K48 : aH → (Option Nat) → Int32 → Int32 → (Option Nat) → Int32 → Int32 → Option (Int32 × aH)} {a0 : Option Nat} {a1 : Int32} {a2 : Int32} {a3 : Option Nat} {a5 : Int32} {t0 : Int32} {t1 : Int32} {q : Int32} {g : aH} (X : aX p l R s m meth c D n0 s0 yX2_errors cX2_errors 13 313 6 (some .int) h0) (k9 : ∀ (h : aH) (a0 : Option Nat) (a1 : Int32) (a2 : Int32) (q : Int32) (g : aH), K9 h a0 a1 a2 = some (q, g) → V p l e R s m args below meth c D n0 s0 (aEnd D below args s h0 (.inr (some (.int q)), g)) h 9 [(0, false, va_rf a0), (1, false, .int a1), (2, false, .int a2)] []) (k48 : ∀ (h : aH) (a0 : Option Nat) (a1 : Int32) (a2 : Int32) (a3 : Option Nat) (a4 : Int32) (a5 : Int32) (q : Int32) (g : aH), K48 h a0 a1 a2 a3 a4 a5 = some (q, g) → V p l e R s m args below meth c D n0 s0 (aEnd D below args s h0 (.inr (some (.int q)), g)) h 48 [(0, false, va_rf a0), (1, false, .int a1), (2, false, .int a2), (3, false, va_rf a3), (4, false, .int a4), (5, false, .int a5)] []) (hf : fX2_errors_p117 D K9 K48 h a0 a1 a2 a3 a5 t0 t1 = some (q, g)) : V p l e R s m args below meth c D n0 s0 (aEnd D below args s h0 (.inr (some (.int q)), g)) h 117 [(0, false, va_rf a0), (1, false, .int a1), (2, false, .int a2), (3, false, va_rf a3), (5, false, .int a5)] [.int t1, .int t0] := by
  have C := X.1
  unfold fX2_errors_p117 at hf
  refine v_iadd (pc := 117) C dX2_errors_117 ?_
  obtain ⟨x1, ex1, hf⟩ := oB hf
  refine vst (Option.some.inj ex1) (fun z => .int z :: []) ?_
  refine v_istore (pc := 118) (lv' := [(4, false, .int x1), (0, false, va_rf a0), (1, false, .int a1), (2, false, .int a2), (3, false, va_rf a3), (5, false, .int a5)]) C dX2_errors_118 (by decide) rfl ?_
  refine v_iinc (pc := 120) (j := 5) (v := (a5 + 1)) (lv' := [(5, false, .int (a5 + 1)), (4, false, .int x1), (0, false, va_rf a0), (1, false, .int a1), (2, false, .int a2), (3, false, va_rf a3)]) C dX2_errors_120 rfl rfl (by decide) rfl ?_
  refine v_goto (pc := 123) (tgt := 48) C dX2_errors_123 rfl ?_
  exact V.sub [2, 3, 4, 5, 1, 0] rfl (k48 _ _ _ _ _ _ _ _ _ hf)
def fX2_errors_p145 (D : aD) (K9 : aH → (Option Nat) → Int32 → Int32 → Option (Int32 × aH)) (h : aH) (a0 : Option Nat) (a1 : Int32) (a2 : Int32) : Option (Int32 × aH) :=
  K9 h a0 a1 (a2 + 1)
theorem vX2_errors_p145 {h : aH} {K9 : aH → (Option Nat) → Int32 → Int32 → Option (Int32 × aH)} {a0 : Option Nat} {a1 : Int32} {a2 : Int32} {q : Int32} {g : aH} (X : aX p l R s m meth c D n0 s0 yX2_errors cX2_errors 13 313 6 (some .int) h0) (k9 : ∀ (h : aH) (a0 : Option Nat) (a1 : Int32) (a2 : Int32) (q : Int32) (g : aH), K9 h a0 a1 a2 = some (q, g) → V p l e R s m args below meth c D n0 s0 (aEnd D below args s h0 (.inr (some (.int q)), g)) h 9 [(0, false, va_rf a0), (1, false, .int a1), (2, false, .int a2)] []) (hf : fX2_errors_p145 D K9 h a0 a1 a2 = some (q, g)) : V p l e R s m args below meth c D n0 s0 (aEnd D below args s h0 (.inr (some (.int q)), g)) h 145 [(0, false, va_rf a0), (1, false, .int a1), (2, false, .int a2)] [] := by
  have C := X.1
  unfold fX2_errors_p145 at hf
  refine v_iinc (pc := 145) (j := 2) (v := (a2 + 1)) (lv' := [(2, false, .int (a2 + 1)), (0, false, va_rf a0), (1, false, .int a1)]) C dX2_errors_145 rfl rfl (by decide) rfl ?_
  refine v_goto (pc := 148) (tgt := 9) C dX2_errors_148 rfl ?_
  exact V.sub [1, 2, 0] rfl (k9 _ _ _ _ _ _ hf)
def fX2_errors_p143 (D : aD) (K9 : aH → (Option Nat) → Int32 → Int32 → Option (Int32 × aH)) (h : aH) (a0 : Option Nat) (a2 : Int32) (t0 : Int32) (t1 : Int32) : Option (Int32 × aH) :=
  (some ((t0 + t1))).bind fun x1 =>
  fX2_errors_p145 D K9 h a0 x1 a2
theorem vX2_errors_p143 {h : aH} {K9 : aH → (Option Nat) → Int32 → Int32 → Option (Int32 × aH)} {a0 : Option Nat} {a2 : Int32} {t0 : Int32} {t1 : Int32} {q : Int32} {g : aH} (X : aX p l R s m meth c D n0 s0 yX2_errors cX2_errors 13 313 6 (some .int) h0) (k9 : ∀ (h : aH) (a0 : Option Nat) (a1 : Int32) (a2 : Int32) (q : Int32) (g : aH), K9 h a0 a1 a2 = some (q, g) → V p l e R s m args below meth c D n0 s0 (aEnd D below args s h0 (.inr (some (.int q)), g)) h 9 [(0, false, va_rf a0), (1, false, .int a1), (2, false, .int a2)] []) (hf : fX2_errors_p143 D K9 h a0 a2 t0 t1 = some (q, g)) : V p l e R s m args below meth c D n0 s0 (aEnd D below args s h0 (.inr (some (.int q)), g)) h 143 [(0, false, va_rf a0), (2, false, .int a2)] [.int t1, .int t0] := by
  have C := X.1
  unfold fX2_errors_p143 at hf
  refine v_iadd (pc := 143) C dX2_errors_143 ?_
  obtain ⟨x1, ex1, hf⟩ := oB hf
  refine vst (Option.some.inj ex1) (fun z => .int z :: []) ?_
  refine v_istore_n (pc := 144) (lv' := [(1, false, .int x1), (0, false, va_rf a0), (2, false, .int a2)]) C dX2_errors_144 rfl (by decide) rfl ?_
  exact V.sub [1, 0, 2] rfl (vX2_errors_p145 X k9 hf)
def fX2_errors_p126 (D : aD) (K9 : aH → (Option Nat) → Int32 → Int32 → Option (Int32 × aH)) (h : aH) (a0 : Option Nat) (a1 : Int32) (a2 : Int32) (a3 : Option Nat) (a4 : Int32) : Option (Int32 × aH) :=
  (aIs h 1 a0).bind fun _ =>
  (fX2_tried D h 8 a0 a3 (0 : Int32)).bind fun x2 =>
  fX2_errors_p143 D K9 h a0 a2 a1 (if a4 = x2 then (0 : Int32) else (1 : Int32))
theorem vX2_errors_p126 {h : aH} {K9 : aH → (Option Nat) → Int32 → Int32 → Option (Int32 × aH)} {a0 : Option Nat} {a1 : Int32} {a2 : Int32} {a3 : Option Nat} {a4 : Int32} {q : Int32} {g : aH} (X : aX p l R s m meth c D n0 s0 yX2_errors cX2_errors 13 313 6 (some .int) h0) (k9 : ∀ (h : aH) (a0 : Option Nat) (a1 : Int32) (a2 : Int32) (q : Int32) (g : aH), K9 h a0 a1 a2 = some (q, g) → V p l e R s m args below meth c D n0 s0 (aEnd D below args s h0 (.inr (some (.int q)), g)) h 9 [(0, false, va_rf a0), (1, false, .int a1), (2, false, .int a2)] []) (hf : fX2_errors_p126 D K9 h a0 a1 a2 a3 a4 = some (q, g)) : V p l e R s m args below meth c D n0 s0 (aEnd D below args s h0 (.inr (some (.int q)), g)) h 126 [(0, false, va_rf a0), (1, false, .int a1), (2, false, .int a2), (3, false, va_rf a3), (4, false, .int a4)] [] := by
  have C := X.1
  unfold fX2_errors_p126 at hf
  refine v_iload_n (pc := 126) (j := 1) C dX2_errors_126 rfl rfl ?_
  refine v_iload (pc := 127) (j := 4) C dX2_errors_127 rfl ?_
  refine v_aload_n (pc := 129) (j := 0) C dX2_errors_129 rfl rfl ?_
  refine v_aload_n (pc := 130) (j := 3) C dX2_errors_130 rfl rfl ?_
  refine v_iconst (pc := 131) (v := (0 : Int32)) C dX2_errors_131 rfl ?_
  obtain ⟨b1, eb1, hf⟩ := oB hf
  obtain ⟨rb1, _, kb1⟩ := aIs_eq eb1
  obtain ⟨x2, ex2, hf⟩ := oB hf
  refine v_call (pc := 132) (d_V (pc := 132) C (As := [va_rf a3, .int (0 : Int32)]) (rest := [.int a4, .int a1]) rb1 kb1 nt_1 q2906 yi_X2_tried_FigureSurveyModel yk_X2_tried rfl (by decide) (by decide) (Nat.le_trans (aw_i (aw_i aw_0)) (by decide)) rfl (mX2_tried C.st 8 _ _ _ _ ex2) dX2_errors_132) ?_
  refine v_icmp_ne (pc := 135) (tgt := 142) C dX2_errors_135 rfl (fun hc => ?_) (fun hc => ?_)
  · simp only [if_neg hc] at hf
    refine v_iconst (pc := 142) (v := (1 : Int32)) C dX2_errors_142 rfl ?_
    exact V.sub [0, 2] rfl (vX2_errors_p143 X k9 hf)
  · simp only [if_pos (Decidable.of_not_not hc)] at hf
    refine v_iconst (pc := 138) (v := (0 : Int32)) C dX2_errors_138 rfl ?_
    refine v_goto (pc := 139) (tgt := 143) C dX2_errors_139 rfl ?_
    exact V.sub [0, 2] rfl (vX2_errors_p143 X k9 hf)
def fX2_errors_p48 (D : aD) (K9 : aH → (Option Nat) → Int32 → Int32 → Option (Int32 × aH)) : Nat → aH → (Option Nat) → Int32 → Int32 → (Option Nat) → Int32 → Int32 → Option (Int32 × aH)
  | 0, _, _, _, _, _, _, _ => none
  | n + 1, h, a0, a1, a2, a3, a4, a5 =>
  (gR h 1 13 a0).bind fun x1 =>
  (aIs h 15 x1).bind fun _ =>
  (fJ2_size D h x1).bind fun x3 =>
  if x3 ≤ a5 then
  (fX2_errors_p126 D K9 h a0 a1 a2 a3 a4)
  else
  ((gR h 9 4 a3).bind fun x5 =>
  (eZ h x5 a5).bind fun x6 =>
  if x6 = 0 then
  (fX2_errors_p117 D K9 (fX2_errors_p48 D K9 n) h a0 a1 a2 a3 a5 a4 (0 : Int32))
  else
  ((gR h 9 5 a3).bind fun x7 =>
  (eZ h x7 a5).bind fun x8 =>
  if x8 = 0 then
  (fX2_errors_p117 D K9 (fX2_errors_p48 D K9 n) h a0 a1 a2 a3 a5 a4 (0 : Int32))
  else
  ((gR h 1 13 a0).bind fun x9 =>
  (aIs h 15 x9).bind fun _ =>
  (fJ2_get D h x9 a5).bind fun x11 =>
  (aCast h [100] x11).bind fun _ =>
  (eI h x11 (0 : Int32)).bind fun x14 =>
  if x14 = 0 then
  ((gR h 1 13 a0).bind fun x15 =>
  (aIs h 15 x15).bind fun _ =>
  (fJ2_get D h x15 a5).bind fun x17 =>
  (aCast h [100] x17).bind fun _ =>
  (eI h x17 (3 : Int32)).bind fun x20 =>
  fX2_errors_p117 D K9 (fX2_errors_p48 D K9 n) h a0 a1 a2 a3 a5 a4 x20)
  else
  (fX2_errors_p117 D K9 (fX2_errors_p48 D K9 n) h a0 a1 a2 a3 a5 a4 (0 : Int32)))))
theorem vX2_errors_p48 {K9 : aH → (Option Nat) → Int32 → Int32 → Option (Int32 × aH)} (X : aX p l R s m meth c D n0 s0 yX2_errors cX2_errors 13 313 6 (some .int) h0) (k9 : ∀ (h : aH) (a0 : Option Nat) (a1 : Int32) (a2 : Int32) (q : Int32) (g : aH), K9 h a0 a1 a2 = some (q, g) → V p l e R s m args below meth c D n0 s0 (aEnd D below args s h0 (.inr (some (.int q)), g)) h 9 [(0, false, va_rf a0), (1, false, .int a1), (2, false, .int a2)] []) : ∀ (n : Nat) (h : aH) (a0 : Option Nat) (a1 : Int32) (a2 : Int32) (a3 : Option Nat) (a4 : Int32) (a5 : Int32) (q : Int32) (g : aH), fX2_errors_p48 D K9 n h a0 a1 a2 a3 a4 a5 = some (q, g) → V p l e R s m args below meth c D n0 s0 (aEnd D below args s h0 (.inr (some (.int q)), g)) h 48 [(0, false, va_rf a0), (1, false, .int a1), (2, false, .int a2), (3, false, va_rf a3), (4, false, .int a4), (5, false, .int a5)] [] := by
  have C := X.1
  intro n
  induction n with
  | zero =>
    intro _ _ _ _ _ _ _ _ _ hf
    rw [fX2_errors_p48] at hf
    cases hf
  | succ n ih =>
    intro h a0 a1 a2 a3 a4 a5 q g hf
    rw [fX2_errors_p48] at hf
    refine v_iload (pc := 48) (j := 5) C dX2_errors_48 rfl ?_
    refine v_aload_n (pc := 50) (j := 0) C dX2_errors_50 rfl rfl ?_
    obtain ⟨x1, ex1, hf⟩ := oB hf
    refine v_getF (pc := 51) C lk_X2_47 (gR_eq ex1) dX2_errors_51 ?_
    obtain ⟨b2, eb2, hf⟩ := oB hf
    obtain ⟨rb2, _, kb2⟩ := aIs_eq eb2
    obtain ⟨x3, ex3, hf⟩ := oB hf
    refine v_call (pc := 54) (d_V (pc := 54) C (As := []) (rest := [.int a5]) rb2 kb2 nt_15 q2502 yi_J2_size_java_util_ArrayList yk_J2_size rfl (by decide) (by decide) (Nat.le_trans (aw_i aw_0) (by decide)) rfl (mJ2_size C.st ex3) dX2_errors_54) ?_
    refine v_icmp_ge (pc := 57) (tgt := 126) C dX2_errors_57 rfl (fun hc => ?_) (fun hc => ?_)
    · rw [if_pos hc] at hf
      exact V.sub [0, 1, 2, 3, 4] rfl (vX2_errors_p126 X k9 hf)
    · rw [if_neg hc] at hf
      refine v_iload (pc := 60) (j := 4) C dX2_errors_60 rfl ?_
      refine v_aload_n (pc := 62) (j := 3) C dX2_errors_62 rfl rfl ?_
      obtain ⟨x5, ex5, hf⟩ := oB hf
      refine v_getF (pc := 63) C lk_X2_189 (gR_eq ex5) dX2_errors_63 ?_
      refine v_iload (pc := 66) (j := 5) C dX2_errors_66 rfl ?_
      obtain ⟨x6, ex6, hf⟩ := oB hf
      refine v_baload (pc := 68) C ex6 dX2_errors_68 ?_
      refine v_if_eq (pc := 69) (tgt := 116) C dX2_errors_69 rfl (fun hc => ?_) (fun hc => ?_)
      · rw [if_pos hc] at hf
        refine v_iconst (pc := 116) (v := (0 : Int32)) C dX2_errors_116 rfl ?_
        exact V.sub [0, 1, 2, 3, 5] rfl (vX2_errors_p117 X k9 ih hf)
      · rw [if_neg hc] at hf
        refine v_aload_n (pc := 72) (j := 3) C dX2_errors_72 rfl rfl ?_
        obtain ⟨x7, ex7, hf⟩ := oB hf
        refine v_getF (pc := 73) C lk_X2_193 (gR_eq ex7) dX2_errors_73 ?_
        refine v_iload (pc := 76) (j := 5) C dX2_errors_76 rfl ?_
        obtain ⟨x8, ex8, hf⟩ := oB hf
        refine v_baload (pc := 78) C ex8 dX2_errors_78 ?_
        refine v_if_eq (pc := 79) (tgt := 116) C dX2_errors_79 rfl (fun hc => ?_) (fun hc => ?_)
        · rw [if_pos hc] at hf
          refine v_iconst (pc := 116) (v := (0 : Int32)) C dX2_errors_116 rfl ?_
          exact V.sub [0, 1, 2, 3, 5] rfl (vX2_errors_p117 X k9 ih hf)
        · rw [if_neg hc] at hf
          refine v_aload_n (pc := 82) (j := 0) C dX2_errors_82 rfl rfl ?_
          obtain ⟨x9, ex9, hf⟩ := oB hf
          refine v_getF (pc := 83) C lk_X2_47 (gR_eq ex9) dX2_errors_83 ?_
          refine v_iload (pc := 86) (j := 5) C dX2_errors_86 rfl ?_
          obtain ⟨b10, eb10, hf⟩ := oB hf
          obtain ⟨rb10, _, kb10⟩ := aIs_eq eb10
          obtain ⟨x11, ex11, hf⟩ := oB hf
          refine v_call (pc := 88) (d_V (pc := 88) C (As := [.int a5]) (rest := [.int a4]) rb10 kb10 nt_15 q2520 yi_J2_get_java_util_ArrayList yk_J2_get rfl (by decide) (by decide) (Nat.le_trans (aw_i aw_0) (by decide)) rfl (mJ2_get C.st ex11) dX2_errors_88) ?_
          obtain ⟨_, e13, hf⟩ := oB hf
          refine v_cast (pc := 91) C q2521 ct__I e13 dX2_errors_91 ?_
          refine v_iconst (pc := 94) (v := (0 : Int32)) C dX2_errors_94 rfl ?_
          obtain ⟨x14, ex14, hf⟩ := oB hf
          refine v_iaload (pc := 95) C ex14 dX2_errors_95 ?_
          refine v_if_ne (pc := 96) (tgt := 116) C dX2_errors_96 rfl (fun hc => ?_) (fun hc => ?_)
          · rw [if_neg hc] at hf
            refine v_iconst (pc := 116) (v := (0 : Int32)) C dX2_errors_116 rfl ?_
            exact V.sub [0, 1, 2, 3, 5] rfl (vX2_errors_p117 X k9 ih hf)
          · rw [if_pos (Decidable.of_not_not hc)] at hf
            refine v_aload_n (pc := 99) (j := 0) C dX2_errors_99 rfl rfl ?_
            obtain ⟨x15, ex15, hf⟩ := oB hf
            refine v_getF (pc := 100) C lk_X2_47 (gR_eq ex15) dX2_errors_100 ?_
            refine v_iload (pc := 103) (j := 5) C dX2_errors_103 rfl ?_
            obtain ⟨b16, eb16, hf⟩ := oB hf
            obtain ⟨rb16, _, kb16⟩ := aIs_eq eb16
            obtain ⟨x17, ex17, hf⟩ := oB hf
            refine v_call (pc := 105) (d_V (pc := 105) C (As := [.int a5]) (rest := [.int a4]) rb16 kb16 nt_15 q2520 yi_J2_get_java_util_ArrayList yk_J2_get rfl (by decide) (by decide) (Nat.le_trans (aw_i aw_0) (by decide)) rfl (mJ2_get C.st ex17) dX2_errors_105) ?_
            obtain ⟨_, e19, hf⟩ := oB hf
            refine v_cast (pc := 108) C q2521 ct__I e19 dX2_errors_108 ?_
            refine v_iconst (pc := 111) (v := (3 : Int32)) C dX2_errors_111 rfl ?_
            obtain ⟨x20, ex20, hf⟩ := oB hf
            refine v_iaload (pc := 112) C ex20 dX2_errors_112 ?_
            refine v_goto (pc := 113) (tgt := 117) C dX2_errors_113 rfl ?_
            exact V.sub [0, 1, 2, 3, 5] rfl (vX2_errors_p117 X k9 ih hf)
def fX2_errors_p9 (D : aD) : Nat → aH → (Option Nat) → Int32 → Int32 → Option (Int32 × aH)
  | 0, _, _, _, _ => none
  | n + 1, h, a0, a1, a2 =>
  (gR h 1 4 a0).bind fun x1 =>
  (aIs h 15 x1).bind fun _ =>
  (fJ2_size D h x1).bind fun x3 =>
  if x3 ≤ a2 then
  (some (a1, h))
  else
  ((aMk D h (9, dfX10)).bind fun h5 =>
  (fX10_init D h5 (some h.1) a0 a2).bind fun h8 =>
  (gR h8 9 0 (some h.1)).bind fun x9 =>
  (eN h8 x9).bind fun x10 =>
  if x10 ≤ (5 : Int32) then
  (fX2_errors_p48 D (fX2_errors_p9 D n) FU h8 a0 a1 a2 (some h.1) (0 : Int32) (0 : Int32))
  else
  (fX2_errors_p145 D (fX2_errors_p9 D n) h8 a0 a1 a2))
theorem vX2_errors_p9 (X : aX p l R s m meth c D n0 s0 yX2_errors cX2_errors 13 313 6 (some .int) h0) : ∀ (n : Nat) (h : aH) (a0 : Option Nat) (a1 : Int32) (a2 : Int32) (q : Int32) (g : aH), fX2_errors_p9 D n h a0 a1 a2 = some (q, g) → V p l e R s m args below meth c D n0 s0 (aEnd D below args s h0 (.inr (some (.int q)), g)) h 9 [(0, false, va_rf a0), (1, false, .int a1), (2, false, .int a2)] [] := by
  have C := X.1
  intro n
  induction n with
  | zero =>
    intro _ _ _ _ _ _ hf
    rw [fX2_errors_p9] at hf
    cases hf
  | succ n ih =>
    intro h a0 a1 a2 q g hf
    rw [fX2_errors_p9] at hf
    refine v_iload_n (pc := 9) (j := 2) C dX2_errors_9 rfl rfl ?_
    refine v_aload_n (pc := 10) (j := 0) C dX2_errors_10 rfl rfl ?_
    obtain ⟨x1, ex1, hf⟩ := oB hf
    refine v_getF (pc := 11) C lk_X2_16 (gR_eq ex1) dX2_errors_11 ?_
    obtain ⟨b2, eb2, hf⟩ := oB hf
    obtain ⟨rb2, _, kb2⟩ := aIs_eq eb2
    obtain ⟨x3, ex3, hf⟩ := oB hf
    refine v_call (pc := 14) (d_V (pc := 14) C (As := []) (rest := [.int a2]) rb2 kb2 nt_15 q2502 yi_J2_size_java_util_ArrayList yk_J2_size rfl (by decide) (by decide) (Nat.le_trans (aw_i aw_0) (by decide)) rfl (mJ2_size C.st ex3) dX2_errors_14) ?_
    refine v_icmp_ge (pc := 17) (tgt := 151) C dX2_errors_17 rfl (fun hc => ?_) (fun hc => ?_)
    · rw [if_pos hc] at hf
      refine v_iload_n (pc := 151) (j := 1) C dX2_errors_151 rfl rfl ?_
      cases hf
      exact v_ireturn (pc := 152) C X.2.1 X.2.2.1 X.2.2.2.1 rfl dX2_errors_152
    · rw [if_neg hc] at hf
      obtain ⟨h5, eh5, hf⟩ := oB hf
      refine v_new (pc := 20) (t := 9) (fs := dfX10) (T := TX10) (N := 8) C rfl in_X10 tyX10 tyX10_ok q2682 q2683 q121 dfX10_ok rfl eh5 dX2_errors_20 ?_
      refine v_dup (pc := 23) C dX2_errors_23 (va_rfc _) ?_
      refine v_aload_n (pc := 24) (j := 0) C dX2_errors_24 rfl rfl ?_
      refine v_iload_n (pc := 25) (j := 2) C dX2_errors_25 rfl rfl ?_
      obtain ⟨h8, ex7, hf⟩ := oB hf
      refine v_callU (pc := 26) (d_I (pc := 26) C (As := [va_rf a0, .int a2]) (rest := [va_rf (some h.1)]) rfl rfl rfl q2684 q2685 yk_X10_init rfl (by decide) (by decide) (Nat.le_trans (aw_r aw_0) (by decide)) rfl (mX10_init C.st ex7) dX2_errors_26) ?_
      refine v_astore_n (pc := 29) (lv' := [(3, false, va_rf (some h.1)), (0, false, va_rf a0), (1, false, .int a1), (2, false, .int a2)]) C dX2_errors_29 rfl (by decide) rfl ?_
      refine v_aload_n (pc := 30) (j := 0) C dX2_errors_30 rfl rfl ?_
      obtain ⟨x9, ex9, hf⟩ := oB hf
      refine v_getF (pc := 31) C lk_X2_206 (gR_eq ex9) dX2_errors_31 ?_
      obtain ⟨x10, ex10, hf⟩ := oB hf
      refine v_alen (pc := 34) C ex10 dX2_errors_34 ?_
      refine v_iconst (pc := 35) (v := (5 : Int32)) C dX2_errors_35 rfl ?_
      refine v_icmp_le (pc := 36) (tgt := 42) C dX2_errors_36 rfl (fun hc => ?_) (fun hc => ?_)
      · rw [if_pos hc] at hf
        refine v_iconst (pc := 42) (v := (0 : Int32)) C dX2_errors_42 rfl ?_
        refine v_istore (pc := 43) (lv' := [(4, false, .int (0 : Int32)), (3, false, va_rf (some h.1)), (0, false, va_rf a0), (1, false, .int a1), (2, false, .int a2)]) C dX2_errors_43 (by decide) rfl ?_
        refine v_iconst (pc := 45) (v := (0 : Int32)) C dX2_errors_45 rfl ?_
        refine v_istore (pc := 46) (lv' := [(5, false, .int (0 : Int32)), (4, false, .int (0 : Int32)), (3, false, va_rf (some h.1)), (0, false, va_rf a0), (1, false, .int a1), (2, false, .int a2)]) C dX2_errors_46 (by decide) rfl ?_
        exact V.sub [3, 4, 5, 2, 1, 0] rfl (vX2_errors_p48 X ih _ _ _ _ _ _ _ _ _ _ hf)
      · rw [if_neg hc] at hf
        refine v_goto (pc := 39) (tgt := 145) C dX2_errors_39 rfl ?_
        exact V.sub [1, 2, 3] rfl (vX2_errors_p145 X ih hf)
def fX2_errors (D : aD) (h : aH) (a0 : Option Nat) : Option (Int32 × aH) :=
  (pF D h 1 0 a0 (.int (0 : Int32))).bind fun h1 =>
  fX2_errors_p9 D FU h1 a0 (0 : Int32) (0 : Int32)
theorem vX2_errors {h : aH} {a0 : Option Nat} {q : Int32} {g : aH} (X : aX p l R s m meth c D n0 s0 yX2_errors cX2_errors 13 313 6 (some .int) h0) (hf : fX2_errors D h a0 = some (q, g)) : V p l e R s m args below meth c D n0 s0 (aEnd D below args s h0 (.inr (some (.int q)), g)) h 0 [(0, false, va_rf a0)] [] := by
  have C := X.1
  unfold fX2_errors at hf
  refine v_aload_n (pc := 0) (j := 0) C dX2_errors_0 rfl rfl ?_
  refine v_iconst (pc := 1) (v := (0 : Int32)) C dX2_errors_1 rfl ?_
  obtain ⟨h1, eh1, hf⟩ := oB hf
  refine v_putF (pc := 2) C lk_X2_69 tyX2 tyX2_ok nmX2 (tyX2_ok 0 (by decide)) rfl rfl eh1 dX2_errors_2 ?_
  refine v_iconst (pc := 5) (v := (0 : Int32)) C dX2_errors_5 rfl ?_
  refine v_istore_n (pc := 6) (lv' := [(1, false, .int (0 : Int32)), (0, false, va_rf a0)]) C dX2_errors_6 rfl (by decide) rfl ?_
  refine v_iconst (pc := 7) (v := (0 : Int32)) C dX2_errors_7 rfl ?_
  refine v_istore_n (pc := 8) (lv' := [(2, false, .int (0 : Int32)), (1, false, .int (0 : Int32)), (0, false, va_rf a0)]) C dX2_errors_8 rfl (by decide) rfl ?_
  exact V.sub [2, 1, 0] rfl (vX2_errors_p9 X _ _ _ _ _ _ _ hf)
theorem mX2_errors {l : Launch} {D : aD} {h : aH} {a0 : Option Nat} {q : Int32} {g : aH} (hst : l.stackTraces = false) (hf : fX2_errors D h a0 = some (q, g)) : aM l D yX2_errors cX2_errors 6 (some .int) 13 313 [va_rf a0] h (.inr (some (.int q)), g) :=
  aM.ofX [(false, va_rf a0)] rfl (ap_r ap_0) (by decide +kernel) hst (al_of (aw_r aw_0) (by decide)) fun p e s m args below meth c X => V.sub (lv' := [(0, false, va_rf a0)]) [0] rfl (vX2_errors X hf)
def fX2_meanSpan_p87 (D : aD) (K11 : aH → (Option Nat) → Int32 → Int32 → Int32 → Option (UInt64 × aH)) (h : aH) (a0 : Option Nat) (a1 : Int32) (a2 : Int32) (a3 : Int32) (a4 : Option Nat) : Option (UInt64 × aH) :=
  (gR h 9 0 a4).bind fun x1 =>
  (eN h x1).bind fun x2 =>
  (some ((a2 + x2))).bind fun x3 =>
  K11 h a0 a1 x3 (a3 + 1)
theorem vX2_meanSpan_p87 {h : aH} {K11 : aH → (Option Nat) → Int32 → Int32 → Int32 → Option (UInt64 × aH)} {a0 : Option Nat} {a1 : Int32} {a2 : Int32} {a3 : Int32} {a4 : Option Nat} {q : UInt64} {g : aH} (X : aX p l R s m meth c D n0 s0 yX2_meanSpan cX2_meanSpan 8 190 6 (some .double) h0) (k11 : ∀ (h : aH) (a0 : Option Nat) (a1 : Int32) (a2 : Int32) (a3 : Int32) (q : UInt64) (g : aH), K11 h a0 a1 a2 a3 = some (q, g) → V p l e R s m args below meth c D n0 s0 (aEnd D below args s h0 (.inr (some (.double q)), g)) h 11 [(0, false, va_rf a0), (1, false, .int a1), (2, false, .int a2), (3, false, .int a3)] []) (hf : fX2_meanSpan_p87 D K11 h a0 a1 a2 a3 a4 = some (q, g)) : V p l e R s m args below meth c D n0 s0 (aEnd D below args s h0 (.inr (some (.double q)), g)) h 87 [(0, false, va_rf a0), (1, false, .int a1), (2, false, .int a2), (3, false, .int a3), (4, false, va_rf a4)] [] := by
  have C := X.1
  unfold fX2_meanSpan_p87 at hf
  refine v_iload_n (pc := 87) (j := 2) C dX2_meanSpan_87 rfl rfl ?_
  refine v_aload (pc := 88) (j := 4) C dX2_meanSpan_88 rfl ?_
  obtain ⟨x1, ex1, hf⟩ := oB hf
  refine v_getF (pc := 90) C lk_X2_206 (gR_eq ex1) dX2_meanSpan_90 ?_
  obtain ⟨x2, ex2, hf⟩ := oB hf
  refine v_alen (pc := 93) C ex2 dX2_meanSpan_93 ?_
  refine v_iadd (pc := 94) C dX2_meanSpan_94 ?_
  obtain ⟨x3, ex3, hf⟩ := oB hf
  refine vst (Option.some.inj ex3) (fun z => .int z :: []) ?_
  refine v_istore_n (pc := 95) (lv' := [(2, false, .int x3), (0, false, va_rf a0), (1, false, .int a1), (3, false, .int a3), (4, false, va_rf a4)]) C dX2_meanSpan_95 rfl (by decide) rfl ?_
  refine v_iinc (pc := 96) (j := 3) (v := (a3 + 1)) (lv' := [(3, false, .int (a3 + 1)), (2, false, .int x3), (0, false, va_rf a0), (1, false, .int a1), (4, false, va_rf a4)]) C dX2_meanSpan_96 rfl rfl (by decide) rfl ?_
  refine v_goto (pc := 99) (tgt := 11) C dX2_meanSpan_99 rfl ?_
  exact V.sub [2, 3, 1, 0] rfl (k11 _ _ _ _ _ _ _ hf)
def fX2_meanSpan_p36 (D : aD) (K11 : aH → (Option Nat) → Int32 → Int32 → Int32 → Option (UInt64 × aH)) : Nat → aH → (Option Nat) → Int32 → Int32 → Int32 → (Option Nat) → Int32 → Option (UInt64 × aH)
  | 0, _, _, _, _, _, _, _ => none
  | n + 1, h, a0, a1, a2, a3, a4, a5 =>
  (gR h 9 0 a4).bind fun x1 =>
  (eN h x1).bind fun x2 =>
  if x2 ≤ a5 then
  (fX2_meanSpan_p87 D K11 h a0 a1 a2 a3 a4)
  else
  ((gR h 9 0 a4).bind fun x3 =>
  (eI h x3 a5).bind fun x4 =>
  (aIs h 1 a0).bind fun _ =>
  (fX2_yearOf D h a0 a4 x4 (1 : Int32)).bind fun x6 =>
  (gR h 9 0 a4).bind fun x8 =>
  (eI h x8 a5).bind fun x9 =>
  (aIs h 1 a0).bind fun _ =>
  (fX2_yearOf D h a0 a4 x9 (0 : Int32)).bind fun x11 =>
  (some ((a1 + (x6 - x11)))).bind fun x13 =>
  fX2_meanSpan_p36 D K11 n h a0 x13 a2 a3 a4 (a5 + 1))
theorem vX2_meanSpan_p36 {K11 : aH → (Option Nat) → Int32 → Int32 → Int32 → Option (UInt64 × aH)} (X : aX p l R s m meth c D n0 s0 yX2_meanSpan cX2_meanSpan 8 190 6 (some .double) h0) (k11 : ∀ (h : aH) (a0 : Option Nat) (a1 : Int32) (a2 : Int32) (a3 : Int32) (q : UInt64) (g : aH), K11 h a0 a1 a2 a3 = some (q, g) → V p l e R s m args below meth c D n0 s0 (aEnd D below args s h0 (.inr (some (.double q)), g)) h 11 [(0, false, va_rf a0), (1, false, .int a1), (2, false, .int a2), (3, false, .int a3)] []) : ∀ (n : Nat) (h : aH) (a0 : Option Nat) (a1 : Int32) (a2 : Int32) (a3 : Int32) (a4 : Option Nat) (a5 : Int32) (q : UInt64) (g : aH), fX2_meanSpan_p36 D K11 n h a0 a1 a2 a3 a4 a5 = some (q, g) → V p l e R s m args below meth c D n0 s0 (aEnd D below args s h0 (.inr (some (.double q)), g)) h 36 [(0, false, va_rf a0), (1, false, .int a1), (2, false, .int a2), (3, false, .int a3), (4, false, va_rf a4), (5, false, .int a5)] [] := by
  have C := X.1
  intro n
  induction n with
  | zero =>
    intro _ _ _ _ _ _ _ _ _ hf
    rw [fX2_meanSpan_p36] at hf
    cases hf
  | succ n ih =>
    intro h a0 a1 a2 a3 a4 a5 q g hf
    rw [fX2_meanSpan_p36] at hf
    refine v_iload (pc := 36) (j := 5) C dX2_meanSpan_36 rfl ?_
    refine v_aload (pc := 38) (j := 4) C dX2_meanSpan_38 rfl ?_
    obtain ⟨x1, ex1, hf⟩ := oB hf
    refine v_getF (pc := 40) C lk_X2_206 (gR_eq ex1) dX2_meanSpan_40 ?_
    obtain ⟨x2, ex2, hf⟩ := oB hf
    refine v_alen (pc := 43) C ex2 dX2_meanSpan_43 ?_
    refine v_icmp_ge (pc := 44) (tgt := 87) C dX2_meanSpan_44 rfl (fun hc => ?_) (fun hc => ?_)
    · rw [if_pos hc] at hf
      exact V.sub [0, 1, 2, 3, 4] rfl (vX2_meanSpan_p87 X k11 hf)
    · rw [if_neg hc] at hf
      refine v_iload_n (pc := 47) (j := 1) C dX2_meanSpan_47 rfl rfl ?_
      refine v_aload_n (pc := 48) (j := 0) C dX2_meanSpan_48 rfl rfl ?_
      refine v_aload (pc := 49) (j := 4) C dX2_meanSpan_49 rfl ?_
      refine v_aload (pc := 51) (j := 4) C dX2_meanSpan_51 rfl ?_
      obtain ⟨x3, ex3, hf⟩ := oB hf
      refine v_getF (pc := 53) C lk_X2_206 (gR_eq ex3) dX2_meanSpan_53 ?_
      refine v_iload (pc := 56) (j := 5) C dX2_meanSpan_56 rfl ?_
      obtain ⟨x4, ex4, hf⟩ := oB hf
      refine v_iaload (pc := 58) C ex4 dX2_meanSpan_58 ?_
      refine v_iconst (pc := 59) (v := (1 : Int32)) C dX2_meanSpan_59 rfl ?_
      obtain ⟨b5, eb5, hf⟩ := oB hf
      obtain ⟨rb5, _, kb5⟩ := aIs_eq eb5
      obtain ⟨x6, ex6, hf⟩ := oB hf
      refine v_call (pc := 60) (d_V (pc := 60) C (As := [va_rf a4, .int x4, .int (1 : Int32)]) (rest := [.int a1]) rb5 kb5 nt_1 q2779 yi_X2_yearOf_FigureSurveyModel yk_X2_yearOf rfl (by decide) (by decide) (Nat.le_trans (aw_i aw_0) (by decide)) rfl (mX2_yearOf C.st ex6) dX2_meanSpan_60) ?_
      refine v_aload_n (pc := 63) (j := 0) C dX2_meanSpan_63 rfl rfl ?_
      refine v_aload (pc := 64) (j := 4) C dX2_meanSpan_64 rfl ?_
      refine v_aload (pc := 66) (j := 4) C dX2_meanSpan_66 rfl ?_
      obtain ⟨x8, ex8, hf⟩ := oB hf
      refine v_getF (pc := 68) C lk_X2_206 (gR_eq ex8) dX2_meanSpan_68 ?_
      refine v_iload (pc := 71) (j := 5) C dX2_meanSpan_71 rfl ?_
      obtain ⟨x9, ex9, hf⟩ := oB hf
      refine v_iaload (pc := 73) C ex9 dX2_meanSpan_73 ?_
      refine v_iconst (pc := 74) (v := (0 : Int32)) C dX2_meanSpan_74 rfl ?_
      obtain ⟨b10, eb10, hf⟩ := oB hf
      obtain ⟨rb10, _, kb10⟩ := aIs_eq eb10
      obtain ⟨x11, ex11, hf⟩ := oB hf
      refine v_call (pc := 75) (d_V (pc := 75) C (As := [va_rf a4, .int x9, .int (0 : Int32)]) (rest := [.int x6, .int a1]) rb10 kb10 nt_1 q2779 yi_X2_yearOf_FigureSurveyModel yk_X2_yearOf rfl (by decide) (by decide) (Nat.le_trans (aw_i (aw_i aw_0)) (by decide)) rfl (mX2_yearOf C.st ex11) dX2_meanSpan_75) ?_
      refine v_isub (pc := 78) C dX2_meanSpan_78 ?_
      refine v_iadd (pc := 79) C dX2_meanSpan_79 ?_
      obtain ⟨x13, ex13, hf⟩ := oB hf
      refine vst (Option.some.inj ex13) (fun z => .int z :: []) ?_
      refine v_istore_n (pc := 80) (lv' := [(1, false, .int x13), (0, false, va_rf a0), (2, false, .int a2), (3, false, .int a3), (4, false, va_rf a4), (5, false, .int a5)]) C dX2_meanSpan_80 rfl (by decide) rfl ?_
      refine v_iinc (pc := 81) (j := 5) (v := (a5 + 1)) (lv' := [(5, false, .int (a5 + 1)), (1, false, .int x13), (0, false, va_rf a0), (2, false, .int a2), (3, false, .int a3), (4, false, va_rf a4)]) C dX2_meanSpan_81 rfl rfl (by decide) rfl ?_
      refine v_goto (pc := 84) (tgt := 36) C dX2_meanSpan_84 rfl ?_
      exact V.sub [2, 1, 3, 4, 5, 0] rfl (ih _ _ _ _ _ _ _ _ _ hf)
def fX2_meanSpan_p102 (D : aD) (h : aH) (a1 : Int32) (a2 : Int32) : Option (UInt64 × aH) :=
  if a2 = 0 then
  (some (FP.dconst0, h))
  else
  ((ck64 (FP.ddiv (FP.i2d a1) (FP.i2d a2))).bind fun _ =>
  some ((FP.ddiv (FP.i2d a1) (FP.i2d a2)), h))
theorem vX2_meanSpan_p102 {h : aH} {a1 : Int32} {a2 : Int32} {q : UInt64} {g : aH} (X : aX p l R s m meth c D n0 s0 yX2_meanSpan cX2_meanSpan 8 190 6 (some .double) h0) (hf : fX2_meanSpan_p102 D h a1 a2 = some (q, g)) : V p l e R s m args below meth c D n0 s0 (aEnd D below args s h0 (.inr (some (.double q)), g)) h 102 [(1, false, .int a1), (2, false, .int a2)] [] := by
  have C := X.1
  unfold fX2_meanSpan_p102 at hf
  refine v_iload_n (pc := 102) (j := 1) C dX2_meanSpan_102 rfl rfl ?_
  refine v_if_ne (pc := 103) (tgt := 110) C dX2_meanSpan_103 rfl (fun hc => ?_) (fun hc => ?_)
  · rw [if_neg hc] at hf
    refine v_iload_n (pc := 110) (j := 0) C dX2_meanSpan_110 rfl rfl ?_
    refine v_i2d (pc := 111) C dX2_meanSpan_111 ?_
    refine v_iload_n (pc := 112) (j := 1) C dX2_meanSpan_112 rfl rfl ?_
    refine v_i2d (pc := 113) C dX2_meanSpan_113 ?_
    obtain ⟨_, e1, hf⟩ := oB hf
    refine v_ddiv (pc := 114) C dX2_meanSpan_114 (ck64_eq e1) ?_
    cases hf
    exact v_dreturn (pc := 115) C X.2.1 X.2.2.1 X.2.2.2.1 rfl dX2_meanSpan_115
  · rw [if_pos (Decidable.of_not_not hc)] at hf
    refine v_dconst0 (pc := 106) C dX2_meanSpan_106 ?_
    refine v_goto (pc := 107) (tgt := 115) C dX2_meanSpan_107 rfl ?_
    cases hf
    exact v_dreturn (pc := 115) C X.2.1 X.2.2.1 X.2.2.2.1 rfl dX2_meanSpan_115
def fX2_meanSpan_p11 (D : aD) : Nat → aH → (Option Nat) → Int32 → Int32 → Int32 → Option (UInt64 × aH)
  | 0, _, _, _, _, _ => none
  | n + 1, h, a0, a1, a2, a3 =>
  (gR h 1 4 a0).bind fun x1 =>
  (aIs h 15 x1).bind fun _ =>
  (fJ2_size D h x1).bind fun x3 =>
  if x3 ≤ a3 then
  (fX2_meanSpan_p102 D h a1 a2)
  else
  ((aMk D h (9, dfX10)).bind fun h5 =>
  (fX10_init D h5 (some h.1) a0 a3).bind fun h8 =>
  fX2_meanSpan_p36 D (fX2_meanSpan_p11 D n) FU h8 a0 a1 a2 a3 (some h.1) (0 : Int32))
theorem vX2_meanSpan_p11 (X : aX p l R s m meth c D n0 s0 yX2_meanSpan cX2_meanSpan 8 190 6 (some .double) h0) : ∀ (n : Nat) (h : aH) (a0 : Option Nat) (a1 : Int32) (a2 : Int32) (a3 : Int32) (q : UInt64) (g : aH), fX2_meanSpan_p11 D n h a0 a1 a2 a3 = some (q, g) → V p l e R s m args below meth c D n0 s0 (aEnd D below args s h0 (.inr (some (.double q)), g)) h 11 [(0, false, va_rf a0), (1, false, .int a1), (2, false, .int a2), (3, false, .int a3)] [] := by
  have C := X.1
  intro n
  induction n with
  | zero =>
    intro _ _ _ _ _ _ _ hf
    rw [fX2_meanSpan_p11] at hf
    cases hf
  | succ n ih =>
    intro h a0 a1 a2 a3 q g hf
    rw [fX2_meanSpan_p11] at hf
    refine v_iload_n (pc := 11) (j := 3) C dX2_meanSpan_11 rfl rfl ?_
    refine v_aload_n (pc := 12) (j := 0) C dX2_meanSpan_12 rfl rfl ?_
    obtain ⟨x1, ex1, hf⟩ := oB hf
    refine v_getF (pc := 13) C lk_X2_16 (gR_eq ex1) dX2_meanSpan_13 ?_
    obtain ⟨b2, eb2, hf⟩ := oB hf
    obtain ⟨rb2, _, kb2⟩ := aIs_eq eb2
    obtain ⟨x3, ex3, hf⟩ := oB hf
    refine v_call (pc := 16) (d_V (pc := 16) C (As := []) (rest := [.int a3]) rb2 kb2 nt_15 q2502 yi_J2_size_java_util_ArrayList yk_J2_size rfl (by decide) (by decide) (Nat.le_trans (aw_i aw_0) (by decide)) rfl (mJ2_size C.st ex3) dX2_meanSpan_16) ?_
    refine v_icmp_ge (pc := 19) (tgt := 102) C dX2_meanSpan_19 rfl (fun hc => ?_) (fun hc => ?_)
    · rw [if_pos hc] at hf
      exact V.sub [1, 2] rfl (vX2_meanSpan_p102 X hf)
    · rw [if_neg hc] at hf
      obtain ⟨h5, eh5, hf⟩ := oB hf
      refine v_new (pc := 22) (t := 9) (fs := dfX10) (T := TX10) (N := 8) C rfl in_X10 tyX10 tyX10_ok q2682 q2683 q121 dfX10_ok rfl eh5 dX2_meanSpan_22 ?_
      refine v_dup (pc := 25) C dX2_meanSpan_25 (va_rfc _) ?_
      refine v_aload_n (pc := 26) (j := 0) C dX2_meanSpan_26 rfl rfl ?_
      refine v_iload_n (pc := 27) (j := 3) C dX2_meanSpan_27 rfl rfl ?_
      obtain ⟨h8, ex7, hf⟩ := oB hf
      refine v_callU (pc := 28) (d_I (pc := 28) C (As := [va_rf a0, .int a3]) (rest := [va_rf (some h.1)]) rfl rfl rfl q2684 q2685 yk_X10_init rfl (by decide) (by decide) (Nat.le_trans (aw_r aw_0) (by decide)) rfl (mX10_init C.st ex7) dX2_meanSpan_28) ?_
      refine v_astore (pc := 31) (lv' := [(4, false, va_rf (some h.1)), (0, false, va_rf a0), (1, false, .int a1), (2, false, .int a2), (3, false, .int a3)]) C dX2_meanSpan_31 (by decide) rfl ?_
      refine v_iconst (pc := 33) (v := (0 : Int32)) C dX2_meanSpan_33 rfl ?_
      refine v_istore (pc := 34) (lv' := [(5, false, .int (0 : Int32)), (4, false, va_rf (some h.1)), (0, false, va_rf a0), (1, false, .int a1), (2, false, .int a2), (3, false, .int a3)]) C dX2_meanSpan_34 (by decide) rfl ?_
      exact V.sub [2, 3, 4, 5, 1, 0] rfl (vX2_meanSpan_p36 X ih _ _ _ _ _ _ _ _ _ _ hf)
def fX2_meanSpan (D : aD) (h : aH) (a0 : Option Nat) : Option (UInt64 × aH) :=
  (pF D h 1 0 a0 (.int (0 : Int32))).bind fun h1 =>
  fX2_meanSpan_p11 D FU h1 a0 (0 : Int32) (0 : Int32) (0 : Int32)
theorem vX2_meanSpan {h : aH} {a0 : Option Nat} {q : UInt64} {g : aH} (X : aX p l R s m meth c D n0 s0 yX2_meanSpan cX2_meanSpan 8 190 6 (some .double) h0) (hf : fX2_meanSpan D h a0 = some (q, g)) : V p l e R s m args below meth c D n0 s0 (aEnd D below args s h0 (.inr (some (.double q)), g)) h 0 [(0, false, va_rf a0)] [] := by
  have C := X.1
  unfold fX2_meanSpan at hf
  refine v_aload_n (pc := 0) (j := 0) C dX2_meanSpan_0 rfl rfl ?_
  refine v_iconst (pc := 1) (v := (0 : Int32)) C dX2_meanSpan_1 rfl ?_
  obtain ⟨h1, eh1, hf⟩ := oB hf
  refine v_putF (pc := 2) C lk_X2_69 tyX2 tyX2_ok nmX2 (tyX2_ok 0 (by decide)) rfl rfl eh1 dX2_meanSpan_2 ?_
  refine v_iconst (pc := 5) (v := (0 : Int32)) C dX2_meanSpan_5 rfl ?_
  refine v_istore_n (pc := 6) (lv' := [(1, false, .int (0 : Int32)), (0, false, va_rf a0)]) C dX2_meanSpan_6 rfl (by decide) rfl ?_
  refine v_iconst (pc := 7) (v := (0 : Int32)) C dX2_meanSpan_7 rfl ?_
  refine v_istore_n (pc := 8) (lv' := [(2, false, .int (0 : Int32)), (1, false, .int (0 : Int32)), (0, false, va_rf a0)]) C dX2_meanSpan_8 rfl (by decide) rfl ?_
  refine v_iconst (pc := 9) (v := (0 : Int32)) C dX2_meanSpan_9 rfl ?_
  refine v_istore_n (pc := 10) (lv' := [(3, false, .int (0 : Int32)), (2, false, .int (0 : Int32)), (1, false, .int (0 : Int32)), (0, false, va_rf a0)]) C dX2_meanSpan_10 rfl (by decide) rfl ?_
  exact V.sub [3, 2, 1, 0] rfl (vX2_meanSpan_p11 X _ _ _ _ _ _ _ _ hf)
theorem mX2_meanSpan {l : Launch} {D : aD} {h : aH} {a0 : Option Nat} {q : UInt64} {g : aH} (hst : l.stackTraces = false) (hf : fX2_meanSpan D h a0 = some (q, g)) : aM l D yX2_meanSpan cX2_meanSpan 6 (some .double) 8 190 [va_rf a0] h (.inr (some (.double q)), g) :=
  aM.ofX [(false, va_rf a0)] rfl (ap_r ap_0) (by decide +kernel) hst (al_of (aw_r aw_0) (by decide)) fun p e s m args below meth c X => V.sub (lv' := [(0, false, va_rf a0)]) [0] rfl (vX2_meanSpan X hf)
def fX2_heldShare_p95 (D : aD) (K11 : aH → (Option Nat) → Int32 → Int32 → Int32 → Option (UInt32 × aH)) (K36 : aH → (Option Nat) → Int32 → Int32 → Int32 → (Option Nat) → Int32 → Option (UInt32 × aH)) (h : aH) (a0 : Option Nat) (a1 : Int32) (a3 : Int32) (a4 : Option Nat) (a5 : Int32) (t0 : Int32) (t1 : Int32) : Option (UInt32 × aH) :=
  (some ((t0 + t1))).bind fun x1 =>
  K36 h a0 a1 x1 a3 a4 (a5 + 1)
theorem vX2_heldShare_p95 {h : aH} {K11 : aH → (Option Nat) → Int32 → Int32 → Int32 → Option (UInt32 × aH)} {K36 : aH → (Option Nat) → Int32 → Int32 → Int32 → (Option Nat) → Int32 → Option (UInt32 × aH)} {a0 : Option Nat} {a1 : Int32} {a3 : Int32} {a4 : Option Nat} {a5 : Int32} {t0 : Int32} {t1 : Int32} {q : UInt32} {g : aH} (X : aX p l R s m meth c D n0 s0 yX2_heldShare cX2_heldShare 8 190 6 (some .float) h0) (k11 : ∀ (h : aH) (a0 : Option Nat) (a1 : Int32) (a2 : Int32) (a3 : Int32) (q : UInt32) (g : aH), K11 h a0 a1 a2 a3 = some (q, g) → V p l e R s m args below meth c D n0 s0 (aEnd D below args s h0 (.inr (some (.float q)), g)) h 11 [(0, false, va_rf a0), (1, false, .int a1), (2, false, .int a2), (3, false, .int a3)] []) (k36 : ∀ (h : aH) (a0 : Option Nat) (a1 : Int32) (a2 : Int32) (a3 : Int32) (a4 : Option Nat) (a5 : Int32) (q : UInt32) (g : aH), K36 h a0 a1 a2 a3 a4 a5 = some (q, g) → V p l e R s m args below meth c D n0 s0 (aEnd D below args s h0 (.inr (some (.float q)), g)) h 36 [(0, false, va_rf a0), (1, false, .int a1), (2, false, .int a2), (3, false, .int a3), (4, false, va_rf a4), (5, false, .int a5)] []) (hf : fX2_heldShare_p95 D K11 K36 h a0 a1 a3 a4 a5 t0 t1 = some (q, g)) : V p l e R s m args below meth c D n0 s0 (aEnd D below args s h0 (.inr (some (.float q)), g)) h 95 [(0, false, va_rf a0), (1, false, .int a1), (3, false, .int a3), (4, false, va_rf a4), (5, false, .int a5)] [.int t1, .int t0] := by
  have C := X.1
  unfold fX2_heldShare_p95 at hf
  refine v_iadd (pc := 95) C dX2_heldShare_95 ?_
  obtain ⟨x1, ex1, hf⟩ := oB hf
  refine vst (Option.some.inj ex1) (fun z => .int z :: []) ?_
  refine v_istore_n (pc := 96) (lv' := [(2, false, .int x1), (0, false, va_rf a0), (1, false, .int a1), (3, false, .int a3), (4, false, va_rf a4), (5, false, .int a5)]) C dX2_heldShare_96 rfl (by decide) rfl ?_
  refine v_iinc (pc := 97) (j := 5) (v := (a5 + 1)) (lv' := [(5, false, .int (a5 + 1)), (2, false, .int x1), (0, false, va_rf a0), (1, false, .int a1), (3, false, .int a3), (4, false, va_rf a4)]) C dX2_heldShare_97 rfl rfl (by decide) rfl ?_
  refine v_goto (pc := 100) (tgt := 36) C dX2_heldShare_100 rfl ?_
  exact V.sub [2, 3, 1, 4, 5, 0] rfl (k36 _ _ _ _ _ _ _ _ _ hf)
def fX2_heldShare_p76 (D : aD) (K11 : aH → (Option Nat) → Int32 → Int32 → Int32 → Option (UInt32 × aH)) (K36 : aH → (Option Nat) → Int32 → Int32 → Int32 → (Option Nat) → Int32 → Option (UInt32 × aH)) (h : aH) (a0 : Option Nat) (a2 : Int32) (a3 : Int32) (a4 : Option Nat) (a5 : Int32) (t0 : Int32) (t1 : Int32) : Option (UInt32 × aH) :=
  (some ((t0 + t1))).bind fun x1 =>
  (gR h 9 4 a4).bind fun x2 =>
  (eZ h x2 a5).bind fun x3 =>
  fX2_heldShare_p95 D K11 K36 h a0 x1 a3 a4 a5 a2 (if x3 = 0 then (0 : Int32) else (1 : Int32))
theorem vX2_heldShare_p76 {h : aH} {K11 : aH → (Option Nat) → Int32 → Int32 → Int32 → Option (UInt32 × aH)} {K36 : aH → (Option Nat) → Int32 → Int32 → Int32 → (Option Nat) → Int32 → Option (UInt32 × aH)} {a0 : Option Nat} {a2 : Int32} {a3 : Int32} {a4 : Option Nat} {a5 : Int32} {t0 : Int32} {t1 : Int32} {q : UInt32} {g : aH} (X : aX p l R s m meth c D n0 s0 yX2_heldShare cX2_heldShare 8 190 6 (some .float) h0) (k11 : ∀ (h : aH) (a0 : Option Nat) (a1 : Int32) (a2 : Int32) (a3 : Int32) (q : UInt32) (g : aH), K11 h a0 a1 a2 a3 = some (q, g) → V p l e R s m args below meth c D n0 s0 (aEnd D below args s h0 (.inr (some (.float q)), g)) h 11 [(0, false, va_rf a0), (1, false, .int a1), (2, false, .int a2), (3, false, .int a3)] []) (k36 : ∀ (h : aH) (a0 : Option Nat) (a1 : Int32) (a2 : Int32) (a3 : Int32) (a4 : Option Nat) (a5 : Int32) (q : UInt32) (g : aH), K36 h a0 a1 a2 a3 a4 a5 = some (q, g) → V p l e R s m args below meth c D n0 s0 (aEnd D below args s h0 (.inr (some (.float q)), g)) h 36 [(0, false, va_rf a0), (1, false, .int a1), (2, false, .int a2), (3, false, .int a3), (4, false, va_rf a4), (5, false, .int a5)] []) (hf : fX2_heldShare_p76 D K11 K36 h a0 a2 a3 a4 a5 t0 t1 = some (q, g)) : V p l e R s m args below meth c D n0 s0 (aEnd D below args s h0 (.inr (some (.float q)), g)) h 76 [(0, false, va_rf a0), (2, false, .int a2), (3, false, .int a3), (4, false, va_rf a4), (5, false, .int a5)] [.int t1, .int t0] := by
  have C := X.1
  unfold fX2_heldShare_p76 at hf
  refine v_iadd (pc := 76) C dX2_heldShare_76 ?_
  obtain ⟨x1, ex1, hf⟩ := oB hf
  refine vst (Option.some.inj ex1) (fun z => .int z :: []) ?_
  refine v_istore_n (pc := 77) (lv' := [(1, false, .int x1), (0, false, va_rf a0), (2, false, .int a2), (3, false, .int a3), (4, false, va_rf a4), (5, false, .int a5)]) C dX2_heldShare_77 rfl (by decide) rfl ?_
  refine v_iload_n (pc := 78) (j := 2) C dX2_heldShare_78 rfl rfl ?_
  refine v_aload (pc := 79) (j := 4) C dX2_heldShare_79 rfl ?_
  obtain ⟨x2, ex2, hf⟩ := oB hf
  refine v_getF (pc := 81) C lk_X2_189 (gR_eq ex2) dX2_heldShare_81 ?_
  refine v_iload (pc := 84) (j := 5) C dX2_heldShare_84 rfl ?_
  obtain ⟨x3, ex3, hf⟩ := oB hf
  refine v_baload (pc := 86) C ex3 dX2_heldShare_86 ?_
  refine v_if_eq (pc := 87) (tgt := 94) C dX2_heldShare_87 rfl (fun hc => ?_) (fun hc => ?_)
  · simp only [if_pos hc] at hf
    refine v_iconst (pc := 94) (v := (0 : Int32)) C dX2_heldShare_94 rfl ?_
    exact V.sub [1, 0, 3, 4, 5] rfl (vX2_heldShare_p95 X k11 k36 hf)
  · simp only [if_neg hc] at hf
    refine v_iconst (pc := 90) (v := (1 : Int32)) C dX2_heldShare_90 rfl ?_
    refine v_goto (pc := 91) (tgt := 95) C dX2_heldShare_91 rfl ?_
    exact V.sub [1, 0, 3, 4, 5] rfl (vX2_heldShare_p95 X k11 k36 hf)
def fX2_heldShare_p103 (D : aD) (K11 : aH → (Option Nat) → Int32 → Int32 → Int32 → Option (UInt32 × aH)) (h : aH) (a0 : Option Nat) (a1 : Int32) (a2 : Int32) (a3 : Int32) : Option (UInt32 × aH) :=
  K11 h a0 a1 a2 (a3 + 1)
theorem vX2_heldShare_p103 {h : aH} {K11 : aH → (Option Nat) → Int32 → Int32 → Int32 → Option (UInt32 × aH)} {a0 : Option Nat} {a1 : Int32} {a2 : Int32} {a3 : Int32} {q : UInt32} {g : aH} (X : aX p l R s m meth c D n0 s0 yX2_heldShare cX2_heldShare 8 190 6 (some .float) h0) (k11 : ∀ (h : aH) (a0 : Option Nat) (a1 : Int32) (a2 : Int32) (a3 : Int32) (q : UInt32) (g : aH), K11 h a0 a1 a2 a3 = some (q, g) → V p l e R s m args below meth c D n0 s0 (aEnd D below args s h0 (.inr (some (.float q)), g)) h 11 [(0, false, va_rf a0), (1, false, .int a1), (2, false, .int a2), (3, false, .int a3)] []) (hf : fX2_heldShare_p103 D K11 h a0 a1 a2 a3 = some (q, g)) : V p l e R s m args below meth c D n0 s0 (aEnd D below args s h0 (.inr (some (.float q)), g)) h 103 [(0, false, va_rf a0), (1, false, .int a1), (2, false, .int a2), (3, false, .int a3)] [] := by
  have C := X.1
  unfold fX2_heldShare_p103 at hf
  refine v_iinc (pc := 103) (j := 3) (v := (a3 + 1)) (lv' := [(3, false, .int (a3 + 1)), (0, false, va_rf a0), (1, false, .int a1), (2, false, .int a2)]) C dX2_heldShare_103 rfl rfl (by decide) rfl ?_
  refine v_goto (pc := 106) (tgt := 11) C dX2_heldShare_106 rfl ?_
  exact V.sub [1, 2, 3, 0] rfl (k11 _ _ _ _ _ _ _ hf)
def fX2_heldShare_p36 (D : aD) (K11 : aH → (Option Nat) → Int32 → Int32 → Int32 → Option (UInt32 × aH)) : Nat → aH → (Option Nat) → Int32 → Int32 → Int32 → (Option Nat) → Int32 → Option (UInt32 × aH)
  | 0, _, _, _, _, _, _, _ => none
  | n + 1, h, a0, a1, a2, a3, a4, a5 =>
  (gR h 1 13 a0).bind fun x1 =>
  (aIs h 15 x1).bind fun _ =>
  (fJ2_size D h x1).bind fun x3 =>
  if x3 ≤ a5 then
  (fX2_heldShare_p103 D K11 h a0 a1 a2 a3)
  else
  ((gR h 9 4 a4).bind fun x5 =>
  (eZ h x5 a5).bind fun x6 =>
  if x6 = 0 then
  (fX2_heldShare_p76 D K11 (fX2_heldShare_p36 D K11 n) h a0 a2 a3 a4 a5 a1 (0 : Int32))
  else
  ((gR h 9 5 a4).bind fun x7 =>
  (eZ h x7 a5).bind fun x8 =>
  fX2_heldShare_p76 D K11 (fX2_heldShare_p36 D K11 n) h a0 a2 a3 a4 a5 a1 (if x8 = 0 then (1 : Int32) else (0 : Int32))))
theorem vX2_heldShare_p36 {K11 : aH → (Option Nat) → Int32 → Int32 → Int32 → Option (UInt32 × aH)} (X : aX p l R s m meth c D n0 s0 yX2_heldShare cX2_heldShare 8 190 6 (some .float) h0) (k11 : ∀ (h : aH) (a0 : Option Nat) (a1 : Int32) (a2 : Int32) (a3 : Int32) (q : UInt32) (g : aH), K11 h a0 a1 a2 a3 = some (q, g) → V p l e R s m args below meth c D n0 s0 (aEnd D below args s h0 (.inr (some (.float q)), g)) h 11 [(0, false, va_rf a0), (1, false, .int a1), (2, false, .int a2), (3, false, .int a3)] []) : ∀ (n : Nat) (h : aH) (a0 : Option Nat) (a1 : Int32) (a2 : Int32) (a3 : Int32) (a4 : Option Nat) (a5 : Int32) (q : UInt32) (g : aH), fX2_heldShare_p36 D K11 n h a0 a1 a2 a3 a4 a5 = some (q, g) → V p l e R s m args below meth c D n0 s0 (aEnd D below args s h0 (.inr (some (.float q)), g)) h 36 [(0, false, va_rf a0), (1, false, .int a1), (2, false, .int a2), (3, false, .int a3), (4, false, va_rf a4), (5, false, .int a5)] [] := by
  have C := X.1
  intro n
  induction n with
  | zero =>
    intro _ _ _ _ _ _ _ _ _ hf
    rw [fX2_heldShare_p36] at hf
    cases hf
  | succ n ih =>
    intro h a0 a1 a2 a3 a4 a5 q g hf
    rw [fX2_heldShare_p36] at hf
    refine v_iload (pc := 36) (j := 5) C dX2_heldShare_36 rfl ?_
    refine v_aload_n (pc := 38) (j := 0) C dX2_heldShare_38 rfl rfl ?_
    obtain ⟨x1, ex1, hf⟩ := oB hf
    refine v_getF (pc := 39) C lk_X2_47 (gR_eq ex1) dX2_heldShare_39 ?_
    obtain ⟨b2, eb2, hf⟩ := oB hf
    obtain ⟨rb2, _, kb2⟩ := aIs_eq eb2
    obtain ⟨x3, ex3, hf⟩ := oB hf
    refine v_call (pc := 42) (d_V (pc := 42) C (As := []) (rest := [.int a5]) rb2 kb2 nt_15 q2502 yi_J2_size_java_util_ArrayList yk_J2_size rfl (by decide) (by decide) (Nat.le_trans (aw_i aw_0) (by decide)) rfl (mJ2_size C.st ex3) dX2_heldShare_42) ?_
    refine v_icmp_ge (pc := 45) (tgt := 103) C dX2_heldShare_45 rfl (fun hc => ?_) (fun hc => ?_)
    · rw [if_pos hc] at hf
      exact V.sub [0, 1, 2, 3] rfl (vX2_heldShare_p103 X k11 hf)
    · rw [if_neg hc] at hf
      refine v_iload_n (pc := 48) (j := 1) C dX2_heldShare_48 rfl rfl ?_
      refine v_aload (pc := 49) (j := 4) C dX2_heldShare_49 rfl ?_
      obtain ⟨x5, ex5, hf⟩ := oB hf
      refine v_getF (pc := 51) C lk_X2_189 (gR_eq ex5) dX2_heldShare_51 ?_
      refine v_iload (pc := 54) (j := 5) C dX2_heldShare_54 rfl ?_
      obtain ⟨x6, ex6, hf⟩ := oB hf
      refine v_baload (pc := 56) C ex6 dX2_heldShare_56 ?_
      refine v_if_eq (pc := 57) (tgt := 75) C dX2_heldShare_57 rfl (fun hc => ?_) (fun hc => ?_)
      · rw [if_pos hc] at hf
        refine v_iconst (pc := 75) (v := (0 : Int32)) C dX2_heldShare_75 rfl ?_
        exact V.sub [0, 2, 3, 4, 5] rfl (vX2_heldShare_p76 X k11 ih hf)
      · rw [if_neg hc] at hf
        refine v_aload (pc := 60) (j := 4) C dX2_heldShare_60 rfl ?_
        obtain ⟨x7, ex7, hf⟩ := oB hf
        refine v_getF (pc := 62) C lk_X2_193 (gR_eq ex7) dX2_heldShare_62 ?_
        refine v_iload (pc := 65) (j := 5) C dX2_heldShare_65 rfl ?_
        obtain ⟨x8, ex8, hf⟩ := oB hf
        refine v_baload (pc := 67) C ex8 dX2_heldShare_67 ?_
        refine v_if_ne (pc := 68) (tgt := 75) C dX2_heldShare_68 rfl (fun hc => ?_) (fun hc => ?_)
        · simp only [if_neg hc] at hf
          refine v_iconst (pc := 75) (v := (0 : Int32)) C dX2_heldShare_75 rfl ?_
          exact V.sub [0, 2, 3, 4, 5] rfl (vX2_heldShare_p76 X k11 ih hf)
        · simp only [if_pos (Decidable.of_not_not hc)] at hf
          refine v_iconst (pc := 71) (v := (1 : Int32)) C dX2_heldShare_71 rfl ?_
          refine v_goto (pc := 72) (tgt := 76) C dX2_heldShare_72 rfl ?_
          exact V.sub [0, 2, 3, 4, 5] rfl (vX2_heldShare_p76 X k11 ih hf)
def fX2_heldShare_p109 (D : aD) (h : aH) (a1 : Int32) (a2 : Int32) : Option (UInt32 × aH) :=
  if a2 = 0 then
  (some (FP.fconst0, h))
  else
  ((ck32 (FP.fdiv (FP.i2f a1) (FP.i2f a2))).bind fun _ =>
  some ((FP.fdiv (FP.i2f a1) (FP.i2f a2)), h))
theorem vX2_heldShare_p109 {h : aH} {a1 : Int32} {a2 : Int32} {q : UInt32} {g : aH} (X : aX p l R s m meth c D n0 s0 yX2_heldShare cX2_heldShare 8 190 6 (some .float) h0) (hf : fX2_heldShare_p109 D h a1 a2 = some (q, g)) : V p l e R s m args below meth c D n0 s0 (aEnd D below args s h0 (.inr (some (.float q)), g)) h 109 [(1, false, .int a1), (2, false, .int a2)] [] := by
  have C := X.1
  unfold fX2_heldShare_p109 at hf
  refine v_iload_n (pc := 109) (j := 1) C dX2_heldShare_109 rfl rfl ?_
  refine v_if_ne (pc := 110) (tgt := 117) C dX2_heldShare_110 rfl (fun hc => ?_) (fun hc => ?_)
  · rw [if_neg hc] at hf
    refine v_iload_n (pc := 117) (j := 0) C dX2_heldShare_117 rfl rfl ?_
    refine v_i2f (pc := 118) C dX2_heldShare_118 ?_
    refine v_iload_n (pc := 119) (j := 1) C dX2_heldShare_119 rfl rfl ?_
    refine v_i2f (pc := 120) C dX2_heldShare_120 ?_
    obtain ⟨_, e1, hf⟩ := oB hf
    refine v_fdiv (pc := 121) C dX2_heldShare_121 (ck32_eq e1) ?_
    cases hf
    exact v_freturn (pc := 122) C X.2.1 X.2.2.1 X.2.2.2.1 rfl dX2_heldShare_122
  · rw [if_pos (Decidable.of_not_not hc)] at hf
    refine v_fconst0 (pc := 113) C dX2_heldShare_113 ?_
    refine v_goto (pc := 114) (tgt := 122) C dX2_heldShare_114 rfl ?_
    cases hf
    exact v_freturn (pc := 122) C X.2.1 X.2.2.1 X.2.2.2.1 rfl dX2_heldShare_122
def fX2_heldShare_p11 (D : aD) : Nat → aH → (Option Nat) → Int32 → Int32 → Int32 → Option (UInt32 × aH)
  | 0, _, _, _, _, _ => none
  | n + 1, h, a0, a1, a2, a3 =>
  (gR h 1 4 a0).bind fun x1 =>
  (aIs h 15 x1).bind fun _ =>
  (fJ2_size D h x1).bind fun x3 =>
  if x3 ≤ a3 then
  (fX2_heldShare_p109 D h a1 a2)
  else
  ((aMk D h (9, dfX10)).bind fun h5 =>
  (fX10_init D h5 (some h.1) a0 a3).bind fun h8 =>
  fX2_heldShare_p36 D (fX2_heldShare_p11 D n) FU h8 a0 a1 a2 a3 (some h.1) (0 : Int32))
theorem vX2_heldShare_p11 (X : aX p l R s m meth c D n0 s0 yX2_heldShare cX2_heldShare 8 190 6 (some .float) h0) : ∀ (n : Nat) (h : aH) (a0 : Option Nat) (a1 : Int32) (a2 : Int32) (a3 : Int32) (q : UInt32) (g : aH), fX2_heldShare_p11 D n h a0 a1 a2 a3 = some (q, g) → V p l e R s m args below meth c D n0 s0 (aEnd D below args s h0 (.inr (some (.float q)), g)) h 11 [(0, false, va_rf a0), (1, false, .int a1), (2, false, .int a2), (3, false, .int a3)] [] := by
  have C := X.1
  intro n
  induction n with
  | zero =>
    intro _ _ _ _ _ _ _ hf
    rw [fX2_heldShare_p11] at hf
    cases hf
  | succ n ih =>
    intro h a0 a1 a2 a3 q g hf
    rw [fX2_heldShare_p11] at hf
    refine v_iload_n (pc := 11) (j := 3) C dX2_heldShare_11 rfl rfl ?_
    refine v_aload_n (pc := 12) (j := 0) C dX2_heldShare_12 rfl rfl ?_
    obtain ⟨x1, ex1, hf⟩ := oB hf
    refine v_getF (pc := 13) C lk_X2_16 (gR_eq ex1) dX2_heldShare_13 ?_
    obtain ⟨b2, eb2, hf⟩ := oB hf
    obtain ⟨rb2, _, kb2⟩ := aIs_eq eb2
    obtain ⟨x3, ex3, hf⟩ := oB hf
    refine v_call (pc := 16) (d_V (pc := 16) C (As := []) (rest := [.int a3]) rb2 kb2 nt_15 q2502 yi_J2_size_java_util_ArrayList yk_J2_size rfl (by decide) (by decide) (Nat.le_trans (aw_i aw_0) (by decide)) rfl (mJ2_size C.st ex3) dX2_heldShare_16) ?_
    refine v_icmp_ge (pc := 19) (tgt := 109) C dX2_heldShare_19 rfl (fun hc => ?_) (fun hc => ?_)
    · rw [if_pos hc] at hf
      exact V.sub [1, 2] rfl (vX2_heldShare_p109 X hf)
    · rw [if_neg hc] at hf
      obtain ⟨h5, eh5, hf⟩ := oB hf
      refine v_new (pc := 22) (t := 9) (fs := dfX10) (T := TX10) (N := 8) C rfl in_X10 tyX10 tyX10_ok q2682 q2683 q121 dfX10_ok rfl eh5 dX2_heldShare_22 ?_
      refine v_dup (pc := 25) C dX2_heldShare_25 (va_rfc _) ?_
      refine v_aload_n (pc := 26) (j := 0) C dX2_heldShare_26 rfl rfl ?_
      refine v_iload_n (pc := 27) (j := 3) C dX2_heldShare_27 rfl rfl ?_
      obtain ⟨h8, ex7, hf⟩ := oB hf
      refine v_callU (pc := 28) (d_I (pc := 28) C (As := [va_rf a0, .int a3]) (rest := [va_rf (some h.1)]) rfl rfl rfl q2684 q2685 yk_X10_init rfl (by decide) (by decide) (Nat.le_trans (aw_r aw_0) (by decide)) rfl (mX10_init C.st ex7) dX2_heldShare_28) ?_
      refine v_astore (pc := 31) (lv' := [(4, false, va_rf (some h.1)), (0, false, va_rf a0), (1, false, .int a1), (2, false, .int a2), (3, false, .int a3)]) C dX2_heldShare_31 (by decide) rfl ?_
      refine v_iconst (pc := 33) (v := (0 : Int32)) C dX2_heldShare_33 rfl ?_
      refine v_istore (pc := 34) (lv' := [(5, false, .int (0 : Int32)), (4, false, va_rf (some h.1)), (0, false, va_rf a0), (1, false, .int a1), (2, false, .int a2), (3, false, .int a3)]) C dX2_heldShare_34 (by decide) rfl ?_
      exact V.sub [2, 3, 4, 5, 1, 0] rfl (vX2_heldShare_p36 X ih _ _ _ _ _ _ _ _ _ _ hf)
def fX2_heldShare (D : aD) (h : aH) (a0 : Option Nat) : Option (UInt32 × aH) :=
  (pF D h 1 0 a0 (.int (0 : Int32))).bind fun h1 =>
  fX2_heldShare_p11 D FU h1 a0 (0 : Int32) (0 : Int32) (0 : Int32)
theorem vX2_heldShare {h : aH} {a0 : Option Nat} {q : UInt32} {g : aH} (X : aX p l R s m meth c D n0 s0 yX2_heldShare cX2_heldShare 8 190 6 (some .float) h0) (hf : fX2_heldShare D h a0 = some (q, g)) : V p l e R s m args below meth c D n0 s0 (aEnd D below args s h0 (.inr (some (.float q)), g)) h 0 [(0, false, va_rf a0)] [] := by
  have C := X.1
  unfold fX2_heldShare at hf
  refine v_aload_n (pc := 0) (j := 0) C dX2_heldShare_0 rfl rfl ?_
  refine v_iconst (pc := 1) (v := (0 : Int32)) C dX2_heldShare_1 rfl ?_
  obtain ⟨h1, eh1, hf⟩ := oB hf
  refine v_putF (pc := 2) C lk_X2_69 tyX2 tyX2_ok nmX2 (tyX2_ok 0 (by decide)) rfl rfl eh1 dX2_heldShare_2 ?_
  refine v_iconst (pc := 5) (v := (0 : Int32)) C dX2_heldShare_5 rfl ?_
  refine v_istore_n (pc := 6) (lv' := [(1, false, .int (0 : Int32)), (0, false, va_rf a0)]) C dX2_heldShare_6 rfl (by decide) rfl ?_
  refine v_iconst (pc := 7) (v := (0 : Int32)) C dX2_heldShare_7 rfl ?_
  refine v_istore_n (pc := 8) (lv' := [(2, false, .int (0 : Int32)), (1, false, .int (0 : Int32)), (0, false, va_rf a0)]) C dX2_heldShare_8 rfl (by decide) rfl ?_
  refine v_iconst (pc := 9) (v := (0 : Int32)) C dX2_heldShare_9 rfl ?_
  refine v_istore_n (pc := 10) (lv' := [(3, false, .int (0 : Int32)), (2, false, .int (0 : Int32)), (1, false, .int (0 : Int32)), (0, false, va_rf a0)]) C dX2_heldShare_10 rfl (by decide) rfl ?_
  exact V.sub [3, 2, 1, 0] rfl (vX2_heldShare_p11 X _ _ _ _ _ _ _ _ hf)
theorem mX2_heldShare {l : Launch} {D : aD} {h : aH} {a0 : Option Nat} {q : UInt32} {g : aH} (hst : l.stackTraces = false) (hf : fX2_heldShare D h a0 = some (q, g)) : aM l D yX2_heldShare cX2_heldShare 6 (some .float) 8 190 [va_rf a0] h (.inr (some (.float q)), g) :=
  aM.ofX [(false, va_rf a0)] rfl (ap_r ap_0) (by decide +kernel) hst (al_of (aw_r aw_0) (by decide)) fun p e s m args below meth c X => V.sub (lv' := [(0, false, va_rf a0)]) [0] rfl (vX2_heldShare X hf)
def fX14_init (D : aD) (h : aH) (a0 : Option Nat) (a1 : Option Nat) (a2 : Int32) (a3 : Int32) : Option (aH) :=
  (a0).bind fun _ =>
  (pF D h 13 0 a0 (va_rf a1)).bind fun h2 =>
  (pF D h2 13 1 a0 (.int a2)).bind fun h3 =>
  (pF D h3 13 2 a0 (.int a3)).bind fun h4 =>
  some h4
theorem vX14_init {h : aH} {a0 : Option Nat} {a1 : Option Nat} {a2 : Int32} {a3 : Int32} {g : aH} (X : aX p l R s m meth c D n0 s0 yX14_init cX14_init 1 12 4 (none) h0) (hf : fX14_init D h a0 a1 a2 a3 = some g) : V p l e R s m args below meth c D n0 s0 (aEnd D below args s h0 (.inr none, g)) h 0 [(0, false, va_rf a0), (1, false, va_rf a1), (2, false, .int a2), (3, false, .int a3)] [] := by
  have C := X.1
  unfold fX14_init at hf
  refine v_aload_n (pc := 0) (j := 0) C dX14_init_0 rfl rfl ?_
  obtain ⟨_, e1, hf⟩ := oB hf
  refine v_objInit (pc := 1) C e1 q2345 q138 q139 (by decide) (Nat.le_trans (Nat.add_le_add_right aw_0 12) (by decide)) dX14_init_1 ?_
  refine v_aload_n (pc := 4) (j := 0) C dX14_init_4 rfl rfl ?_
  refine v_aload_n (pc := 5) (j := 1) C dX14_init_5 rfl rfl ?_
  obtain ⟨h2, eh2, hf⟩ := oB hf
  refine v_putC (pc := 6) C X.2.2.2.2.2.1 lk_X14_7 rfl q2346 tyX14 tyX14_ok nmX14 (tyX14_ok 0 (by decide)) rfl ft_o eh2 dX14_init_6 ?_
  refine v_aload_n (pc := 9) (j := 0) C dX14_init_9 rfl rfl ?_
  refine v_iload_n (pc := 10) (j := 2) C dX14_init_10 rfl rfl ?_
  obtain ⟨h3, eh3, hf⟩ := oB hf
  refine v_putC (pc := 11) C X.2.2.2.2.2.1 lk_X14_13 rfl q2348 tyX14 tyX14_ok nmX14 (tyX14_ok 1 (by decide)) rfl rfl eh3 dX14_init_11 ?_
  refine v_aload_n (pc := 14) (j := 0) C dX14_init_14 rfl rfl ?_
  refine v_iload_n (pc := 15) (j := 3) C dX14_init_15 rfl rfl ?_
  obtain ⟨h4, eh4, hf⟩ := oB hf
  refine v_putC (pc := 16) C X.2.2.2.2.2.1 lk_X14_17 rfl q2350 tyX14 tyX14_ok nmX14 (tyX14_ok 2 (by decide)) rfl rfl eh4 dX14_init_16 ?_
  cases hf
  exact v_return (pc := 19) C X.2.1 X.2.2.1 X.2.2.2.1 rfl dX14_init_19
theorem mX14_init {l : Launch} {D : aD} {h : aH} {a0 : Option Nat} {a1 : Option Nat} {a2 : Int32} {a3 : Int32} {g : aH} (hst : l.stackTraces = false) (hf : fX14_init D h a0 a1 a2 a3 = some g) : aM l D yX14_init cX14_init 4 (none) 1 12 [va_rf a0, va_rf a1, .int a2, .int a3] h (.inr none, g) :=
  aM.ofX [(false, va_rf a0), (false, va_rf a1), (false, .int a2), (false, .int a3)] rfl (ap_r (ap_r (ap_c rfl (ap_c rfl ap_0)))) (by decide +kernel) hst (al_of (aw_r (aw_r (aw_i (aw_i aw_0)))) (by decide)) fun p e s m args below meth c X => V.sub (lv' := [(0, false, va_rf a0), (1, false, va_rf a1), (2, false, .int a2), (3, false, .int a3)]) [0, 1, 2, 3] rfl (vX14_init X hf)
def fJ19_compare (D : aD) (h : aH) (a0 : Int32) (a1 : Int32) : Option (Int32) :=
  if a1 ≤ a0 then
  (if a0 = a1 then
  (some (0 : Int32))
  else
  (some (1 : Int32)))
  else
  (some (-1 : Int32))
theorem vJ19_compare {h : aH} {a0 : Int32} {a1 : Int32} {q : Int32} (X : aX p l R s m meth c D n0 s0 yJ19_compare cJ19_compare 0 0 2 (some .int) h0) (hf : fJ19_compare D h a0 a1 = some q) : V p l e R s m args below meth c D n0 s0 (aEnd D below args s h0 (.inr (some (.int q)), h)) h 0 [(0, false, .int a0), (1, false, .int a1)] [] := by
  have C := X.1
  unfold fJ19_compare at hf
  refine v_iload_n (pc := 0) (j := 0) C dJ19_compare_0 rfl rfl ?_
  refine v_iload_n (pc := 1) (j := 1) C dJ19_compare_1 rfl rfl ?_
  refine v_icmp_ge (pc := 2) (tgt := 9) C dJ19_compare_2 rfl (fun hc => ?_) (fun hc => ?_)
  · rw [if_pos hc] at hf
    refine v_iload_n (pc := 9) (j := 0) C dJ19_compare_9 rfl rfl ?_
    refine v_iload_n (pc := 10) (j := 1) C dJ19_compare_10 rfl rfl ?_
    refine v_icmp_ne (pc := 11) (tgt := 18) C dJ19_compare_11 rfl (fun hc => ?_) (fun hc => ?_)
    · rw [if_neg hc] at hf
      refine v_iconst (pc := 18) (v := (1 : Int32)) C dJ19_compare_18 rfl ?_
      cases hf
      exact v_ireturn (pc := 19) C X.2.1 X.2.2.1 X.2.2.2.1 rfl dJ19_compare_19
    · rw [if_pos (Decidable.of_not_not hc)] at hf
      refine v_iconst (pc := 14) (v := (0 : Int32)) C dJ19_compare_14 rfl ?_
      refine v_goto (pc := 15) (tgt := 19) C dJ19_compare_15 rfl ?_
      cases hf
      exact v_ireturn (pc := 19) C X.2.1 X.2.2.1 X.2.2.2.1 rfl dJ19_compare_19
  · rw [if_neg hc] at hf
    refine v_iconst (pc := 5) (v := (-1 : Int32)) C dJ19_compare_5 rfl ?_
    refine v_goto (pc := 6) (tgt := 19) C dJ19_compare_6 rfl ?_
    cases hf
    exact v_ireturn (pc := 19) C X.2.1 X.2.2.1 X.2.2.2.1 rfl dJ19_compare_19
theorem mJ19_compare {l : Launch} {D : aD} {h : aH} {a0 : Int32} {a1 : Int32} {q : Int32} (hst : l.stackTraces = false) (hf : fJ19_compare D h a0 a1 = some q) : aM l D yJ19_compare cJ19_compare 2 (some .int) 0 0 [.int a0, .int a1] h (.inr (some (.int q)), h) :=
  aM.ofX [(false, .int a0), (false, .int a1)] rfl (ap_c rfl (ap_c rfl ap_0)) (by decide +kernel) hst (al_of (aw_i (aw_i aw_0)) (by decide)) fun p e s m args below meth c X => V.sub (lv' := [(0, false, .int a0), (1, false, .int a1)]) [0, 1] rfl (vJ19_compare X hf)
def fX11_compareTo_2 (D : aD) (h : aH) (a0 : Option Nat) (a1 : Option Nat) : Option (Int32) :=
  (gI h 10 0 a0).bind fun x1 =>
  (gI h 10 0 a1).bind fun x2 =>
  if x1 = x2 then
  ((gI h 10 1 a0).bind fun x3 =>
  (gI h 10 1 a1).bind fun x4 =>
  (fJ19_compare D h x3 x4).bind fun x6 =>
  some x6)
  else
  ((gI h 10 0 a0).bind fun x8 =>
  (gI h 10 0 a1).bind fun x9 =>
  (fJ19_compare D h x8 x9).bind fun x11 =>
  some x11)
theorem vX11_compareTo_2 {h : aH} {a0 : Option Nat} {a1 : Option Nat} {q : Int32} (X : aX p l R s m meth c D n0 s0 yX11_compareTo_2 cX11_compareTo_2 1 21 2 (some .int) h0) (hf : fX11_compareTo_2 D h a0 a1 = some q) : V p l e R s m args below meth c D n0 s0 (aEnd D below args s h0 (.inr (some (.int q)), h)) h 0 [(0, false, va_rf a0), (1, false, va_rf a1)] [] := by
  have C := X.1
  unfold fX11_compareTo_2 at hf
  refine v_aload_n (pc := 0) (j := 0) C dX11_compareTo_2_0 rfl rfl ?_
  obtain ⟨x1, ex1, hf⟩ := oB hf
  refine v_getF (pc := 1) C lk_X11_7 (gI_eq ex1) dX11_compareTo_2_1 ?_
  refine v_aload_n (pc := 4) (j := 1) C dX11_compareTo_2_4 rfl rfl ?_
  obtain ⟨x2, ex2, hf⟩ := oB hf
  refine v_getF (pc := 5) C lk_X11_7 (gI_eq ex2) dX11_compareTo_2_5 ?_
  refine v_icmp_eq (pc := 8) (tgt := 25) C dX11_compareTo_2_8 rfl (fun hc => ?_) (fun hc => ?_)
  · rw [if_pos hc] at hf
    refine v_aload_n (pc := 25) (j := 0) C dX11_compareTo_2_25 rfl rfl ?_
    obtain ⟨x3, ex3, hf⟩ := oB hf
    refine v_getF (pc := 26) C lk_X11_13 (gI_eq ex3) dX11_compareTo_2_26 ?_
    refine v_aload_n (pc := 29) (j := 1) C dX11_compareTo_2_29 rfl rfl ?_
    obtain ⟨x4, ex4, hf⟩ := oB hf
    refine v_getF (pc := 30) C lk_X11_13 (gI_eq ex4) dX11_compareTo_2_30 ?_
    obtain ⟨x6, ex6, hf⟩ := oB hf
    refine v_call (pc := 33) (d_S (pc := 33) C (As := [.int x3, .int x4]) (rest := []) q621 q505 yk_J19_compare rfl (by decide) (by decide) (Nat.le_trans aw_0 (by decide)) rfl (mJ19_compare C.st ex6) dX11_compareTo_2_33) ?_
    cases hf
    exact v_ireturn (pc := 36) C X.2.1 X.2.2.1 X.2.2.2.1 rfl dX11_compareTo_2_36
  · rw [if_neg hc] at hf
    refine v_aload_n (pc := 11) (j := 0) C dX11_compareTo_2_11 rfl rfl ?_
    obtain ⟨x8, ex8, hf⟩ := oB hf
    refine v_getF (pc := 12) C lk_X11_7 (gI_eq ex8) dX11_compareTo_2_12 ?_
    refine v_aload_n (pc := 15) (j := 1) C dX11_compareTo_2_15 rfl rfl ?_
    obtain ⟨x9, ex9, hf⟩ := oB hf
    refine v_getF (pc := 16) C lk_X11_7 (gI_eq ex9) dX11_compareTo_2_16 ?_
    obtain ⟨x11, ex11, hf⟩ := oB hf
    refine v_call (pc := 19) (d_S (pc := 19) C (As := [.int x8, .int x9]) (rest := []) q621 q505 yk_J19_compare rfl (by decide) (by decide) (Nat.le_trans aw_0 (by decide)) rfl (mJ19_compare C.st ex11) dX11_compareTo_2_19) ?_
    refine v_goto (pc := 22) (tgt := 36) C dX11_compareTo_2_22 rfl ?_
    cases hf
    exact v_ireturn (pc := 36) C X.2.1 X.2.2.1 X.2.2.2.1 rfl dX11_compareTo_2_36
theorem mX11_compareTo_2 {l : Launch} {D : aD} {h : aH} {a0 : Option Nat} {a1 : Option Nat} {q : Int32} (hst : l.stackTraces = false) (hf : fX11_compareTo_2 D h a0 a1 = some q) : aM l D yX11_compareTo_2 cX11_compareTo_2 2 (some .int) 1 21 [va_rf a0, va_rf a1] h (.inr (some (.int q)), h) :=
  aM.ofX [(false, va_rf a0), (false, va_rf a1)] rfl (ap_r (ap_r ap_0)) (by decide +kernel) hst (al_of (aw_r (aw_r aw_0)) (by decide)) fun p e s m args below meth c X => V.sub (lv' := [(0, false, va_rf a0), (1, false, va_rf a1)]) [0, 1] rfl (vX11_compareTo_2 X hf)
def fX11_compareTo (D : aD) (h : aH) (a0 : Option Nat) (a1 : Option Nat) : Option (Int32) :=
  (aCast h [10] a1).bind fun _ =>
  (aIs h 10 a0).bind fun _ =>
  (fX11_compareTo_2 D h a0 a1).bind fun x3 =>
  some x3
theorem vX11_compareTo {h : aH} {a0 : Option Nat} {a1 : Option Nat} {q : Int32} (X : aX p l R s m meth c D n0 s0 yX11_compareTo cX11_compareTo 2 42 2 (some .int) h0) (hf : fX11_compareTo D h a0 a1 = some q) : V p l e R s m args below meth c D n0 s0 (aEnd D below args s h0 (.inr (some (.int q)), h)) h 0 [(0, false, va_rf a0), (1, false, va_rf a1)] [] := by
  have C := X.1
  unfold fX11_compareTo at hf
  refine v_aload_n (pc := 0) (j := 0) C dX11_compareTo_0 rfl rfl ?_
  refine v_aload_n (pc := 1) (j := 1) C dX11_compareTo_1 rfl rfl ?_
  obtain ⟨_, e1, hf⟩ := oB hf
  refine v_cast (pc := 2) C q616 ct_FigureSurvey_Bound e1 dX11_compareTo_2 ?_
  obtain ⟨b2, eb2, hf⟩ := oB hf
  obtain ⟨rb2, _, kb2⟩ := aIs_eq eb2
  obtain ⟨x3, ex3, hf⟩ := oB hf
  refine v_call (pc := 5) (d_V (pc := 5) C (As := [va_rf a1]) (rest := []) rb2 kb2 nt_10 q617 yi_X11_compareTo_2_FigureSurvey_Bound yk_X11_compareTo_2 rfl (by decide) (by decide) (Nat.le_trans aw_0 (by decide)) rfl (mX11_compareTo_2 C.st ex3) dX11_compareTo_5) ?_
  cases hf
  exact v_ireturn (pc := 8) C X.2.1 X.2.2.1 X.2.2.2.1 rfl dX11_compareTo_8
theorem mX11_compareTo {l : Launch} {D : aD} {h : aH} {a0 : Option Nat} {a1 : Option Nat} {q : Int32} (hst : l.stackTraces = false) (hf : fX11_compareTo D h a0 a1 = some q) : aM l D yX11_compareTo cX11_compareTo 2 (some .int) 2 42 [va_rf a0, va_rf a1] h (.inr (some (.int q)), h) :=
  aM.ofX [(false, va_rf a0), (false, va_rf a1)] rfl (ap_r (ap_r ap_0)) (by decide +kernel) hst (al_of (aw_r (aw_r aw_0)) (by decide)) fun p e s m args below meth c X => V.sub (lv' := [(0, false, va_rf a0), (1, false, va_rf a1)]) [0, 1] rfl (vX11_compareTo X hf)
def fX11_init (D : aD) (h : aH) (a0 : Option Nat) (a1 : Int32) (a2 : Int32) : Option (aH) :=
  (a0).bind fun _ =>
  (pF D h 10 0 a0 (.int a1)).bind fun h2 =>
  (pF D h2 10 1 a0 (.int a2)).bind fun h3 =>
  some h3
theorem vX11_init {h : aH} {a0 : Option Nat} {a1 : Int32} {a2 : Int32} {g : aH} (X : aX p l R s m meth c D n0 s0 yX11_init cX11_init 1 12 3 (none) h0) (hf : fX11_init D h a0 a1 a2 = some g) : V p l e R s m args below meth c D n0 s0 (aEnd D below args s h0 (.inr none, g)) h 0 [(0, false, va_rf a0), (1, false, .int a1), (2, false, .int a2)] [] := by
  have C := X.1
  unfold fX11_init at hf
  refine v_aload_n (pc := 0) (j := 0) C dX11_init_0 rfl rfl ?_
  obtain ⟨_, e1, hf⟩ := oB hf
  refine v_objInit (pc := 1) C e1 q1381 q138 q139 (by decide) (Nat.le_trans (Nat.add_le_add_right aw_0 12) (by decide)) dX11_init_1 ?_
  refine v_aload_n (pc := 4) (j := 0) C dX11_init_4 rfl rfl ?_
  refine v_iload_n (pc := 5) (j := 1) C dX11_init_5 rfl rfl ?_
  obtain ⟨h2, eh2, hf⟩ := oB hf
  refine v_putC (pc := 6) C X.2.2.2.2.2.1 lk_X11_7 rfl q1382 tyX11 tyX11_ok nmX11 (tyX11_ok 0 (by decide)) rfl rfl eh2 dX11_init_6 ?_
  refine v_aload_n (pc := 9) (j := 0) C dX11_init_9 rfl rfl ?_
  refine v_iload_n (pc := 10) (j := 2) C dX11_init_10 rfl rfl ?_
  obtain ⟨h3, eh3, hf⟩ := oB hf
  refine v_putC (pc := 11) C X.2.2.2.2.2.1 lk_X11_13 rfl q1384 tyX11 tyX11_ok nmX11 (tyX11_ok 1 (by decide)) rfl rfl eh3 dX11_init_11 ?_
  cases hf
  exact v_return (pc := 14) C X.2.1 X.2.2.1 X.2.2.2.1 rfl dX11_init_14
theorem mX11_init {l : Launch} {D : aD} {h : aH} {a0 : Option Nat} {a1 : Int32} {a2 : Int32} {g : aH} (hst : l.stackTraces = false) (hf : fX11_init D h a0 a1 a2 = some g) : aM l D yX11_init cX11_init 3 (none) 1 12 [va_rf a0, .int a1, .int a2] h (.inr none, g) :=
  aM.ofX [(false, va_rf a0), (false, .int a1), (false, .int a2)] rfl (ap_r (ap_c rfl (ap_c rfl ap_0))) (by decide +kernel) hst (al_of (aw_r (aw_i (aw_i aw_0))) (by decide)) fun p e s m args below meth c X => V.sub (lv' := [(0, false, va_rf a0), (1, false, .int a1), (2, false, .int a2)]) [0, 1, 2] rfl (vX11_init X hf)
def fX15_init (D : aD) (h : aH) (a0 : Option Nat) (a1 : Option Nat) : Option (aH) :=
  (pF D h 14 0 a0 (va_rf a1)).bind fun h1 =>
  (a0).bind fun _ =>
  some h1
theorem vX15_init {h : aH} {a0 : Option Nat} {a1 : Option Nat} {g : aH} (X : aX p l R s m meth c D n0 s0 yX15_init cX15_init 1 12 2 (none) h0) (hf : fX15_init D h a0 a1 = some g) : V p l e R s m args below meth c D n0 s0 (aEnd D below args s h0 (.inr none, g)) h 0 [(0, false, va_rf a0), (1, false, va_rf a1)] [] := by
  have C := X.1
  unfold fX15_init at hf
  refine v_aload_n (pc := 0) (j := 0) C dX15_init_0 rfl rfl ?_
  refine v_aload_n (pc := 1) (j := 1) C dX15_init_1 rfl rfl ?_
  obtain ⟨h1, eh1, hf⟩ := oB hf
  refine v_putC (pc := 2) C X.2.2.2.2.2.1 lk_X15_1 rfl q278 tyX15 tyX15_ok nmX15 (tyX15_ok 0 (by decide)) rfl ft_o eh1 dX15_init_2 ?_
  refine v_aload_n (pc := 5) (j := 0) C dX15_init_5 rfl rfl ?_
  obtain ⟨_, e2, hf⟩ := oB hf
  refine v_objInit (pc := 6) C e2 q277 q138 q139 (by decide) (Nat.le_trans (Nat.add_le_add_right aw_0 12) (by decide)) dX15_init_6 ?_
  cases hf
  exact v_return (pc := 9) C X.2.1 X.2.2.1 X.2.2.2.1 rfl dX15_init_9
theorem mX15_init {l : Launch} {D : aD} {h : aH} {a0 : Option Nat} {a1 : Option Nat} {g : aH} (hst : l.stackTraces = false) (hf : fX15_init D h a0 a1 = some g) : aM l D yX15_init cX15_init 2 (none) 1 12 [va_rf a0, va_rf a1] h (.inr none, g) :=
  aM.ofX [(false, va_rf a0), (false, va_rf a1)] rfl (ap_r (ap_r ap_0)) (by decide +kernel) hst (al_of (aw_r (aw_r aw_0)) (by decide)) fun p e s m args below meth c X => V.sub (lv' := [(0, false, va_rf a0), (1, false, va_rf a1)]) [0, 1] rfl (vX15_init X hf)
def fX4_known (D : aD) (h : aH) (a0 : Option Nat) : Option (Int64) :=
  (gI h 3 2 a0).bind fun x1 =>
  if x1 = 0 then
  ((gL h 3 1 a0).bind fun x2 =>
  (gR h 3 0 a0).bind fun x3 =>
  (gL h 2 4 x3).bind fun x4 =>
  some (x2 &&& (x4 ^^^ (-1 : Int64))))
  else
  ((gL h 3 1 a0).bind fun x5 =>
  some x5)
theorem vX4_known {h : aH} {a0 : Option Nat} {q : Int64} (X : aX p l R s m meth c D n0 s0 yX4_known cX4_known 0 0 1 (some .long) h0) (hf : fX4_known D h a0 = some q) : V p l e R s m args below meth c D n0 s0 (aEnd D below args s h0 (.inr (some (.long q)), h)) h 0 [(0, false, va_rf a0)] [] := by
  have C := X.1
  unfold fX4_known at hf
  refine v_aload_n (pc := 0) (j := 0) C dX4_known_0 rfl rfl ?_
  obtain ⟨x1, ex1, hf⟩ := oB hf
  refine v_getF (pc := 1) C lk_X4_17 (gI_eq ex1) dX4_known_1 ?_
  refine v_if_eq (pc := 4) (tgt := 14) C dX4_known_4 rfl (fun hc => ?_) (fun hc => ?_)
  · rw [if_pos hc] at hf
    refine v_aload_n (pc := 14) (j := 0) C dX4_known_14 rfl rfl ?_
    obtain ⟨x2, ex2, hf⟩ := oB hf
    refine v_getF (pc := 15) C lk_X4_13 (gL_eq ex2) dX4_known_15 ?_
    refine v_aload_n (pc := 18) (j := 0) C dX4_known_18 rfl rfl ?_
    obtain ⟨x3, ex3, hf⟩ := oB hf
    refine v_getF (pc := 19) C lk_X4_7 (gR_eq ex3) dX4_known_19 ?_
    obtain ⟨x4, ex4, hf⟩ := oB hf
    refine v_getF (pc := 22) C lk_X4_21 (gL_eq ex4) dX4_known_22 ?_
    refine v_ldc2 (pc := 25) (v := (-1 : Int64)) C q546 dX4_known_25 ?_
    refine v_lxor (pc := 28) C dX4_known_28 ?_
    refine v_land (pc := 29) C dX4_known_29 ?_
    cases hf
    exact v_lreturn (pc := 30) C X.2.1 X.2.2.1 X.2.2.2.1 rfl dX4_known_30
  · rw [if_neg hc] at hf
    refine v_aload_n (pc := 7) (j := 0) C dX4_known_7 rfl rfl ?_
    obtain ⟨x5, ex5, hf⟩ := oB hf
    refine v_getF (pc := 8) C lk_X4_13 (gL_eq ex5) dX4_known_8 ?_
    refine v_goto (pc := 11) (tgt := 30) C dX4_known_11 rfl ?_
    cases hf
    exact v_lreturn (pc := 30) C X.2.1 X.2.2.1 X.2.2.2.1 rfl dX4_known_30
theorem mX4_known {l : Launch} {D : aD} {h : aH} {a0 : Option Nat} {q : Int64} (hst : l.stackTraces = false) (hf : fX4_known D h a0 = some q) : aM l D yX4_known cX4_known 1 (some .long) 0 0 [va_rf a0] h (.inr (some (.long q)), h) :=
  aM.ofX [(false, va_rf a0)] rfl (ap_r ap_0) (by decide +kernel) hst (al_of (aw_r aw_0) (by decide)) fun p e s m args below meth c X => V.sub (lv' := [(0, false, va_rf a0)]) [0] rfl (vX4_known X hf)
def fX5_cells_p38 (D : aD) (h : aH) (a1 : Int64) : Option (Int64) :=
  some a1
theorem vX5_cells_p38 {h : aH} {a1 : Int64} {q : Int64} (X : aX p l R s m meth c D n0 s0 yX5_cells cX5_cells 3 64 4 (some .long) h0) (hf : fX5_cells_p38 D h a1 = some q) : V p l e R s m args below meth c D n0 s0 (aEnd D below args s h0 (.inr (some (.long q)), h)) h 38 [(1, true, .long a1)] [] := by
  have C := X.1
  unfold fX5_cells_p38 at hf
  refine v_lload_n (pc := 38) (j := 0) C dX5_cells_38 rfl rfl ?_
  cases hf
  exact v_lreturn (pc := 39) C X.2.1 X.2.2.1 X.2.2.2.1 rfl dX5_cells_39
def fX5_cells_p4 (D : aD) (h : aH) : Nat → (Option Nat) → Int64 → Int32 → Option (Int64)
  | 0, _, _, _ => none
  | n + 1, a0, a1, a3 =>
  (gR h 4 2 a0).bind fun x1 =>
  (aIs h 15 x1).bind fun _ =>
  (fJ2_size D h x1).bind fun x3 =>
  if x3 ≤ a3 then
  (fX5_cells_p38 D h a1)
  else
  ((gR h 4 2 a0).bind fun x5 =>
  (aIs h 15 x5).bind fun _ =>
  (fJ2_get D h x5 a3).bind fun x7 =>
  (aCast h [3] x7).bind fun _ =>
  (aIs h 3 x7).bind fun _ =>
  (fX4_known D h x7).bind fun x11 =>
  (some ((a1 ||| x11))).bind fun x13 =>
  fX5_cells_p4 D h n a0 x13 (a3 + 1))
theorem vX5_cells_p4 {h : aH} (X : aX p l R s m meth c D n0 s0 yX5_cells cX5_cells 3 64 4 (some .long) h0) : ∀ (n : Nat) (a0 : Option Nat) (a1 : Int64) (a3 : Int32) (q : Int64), fX5_cells_p4 D h n a0 a1 a3 = some q → V p l e R s m args below meth c D n0 s0 (aEnd D below args s h0 (.inr (some (.long q)), h)) h 4 [(0, false, va_rf a0), (1, true, .long a1), (3, false, .int a3)] [] := by
  have C := X.1
  intro n
  induction n with
  | zero =>
    intro _ _ _ _ hf
    rw [fX5_cells_p4] at hf
    cases hf
  | succ n ih =>
    intro a0 a1 a3 q hf
    rw [fX5_cells_p4] at hf
    refine v_iload_n (pc := 4) (j := 2) C dX5_cells_4 rfl rfl ?_
    refine v_aload_n (pc := 5) (j := 0) C dX5_cells_5 rfl rfl ?_
    obtain ⟨x1, ex1, hf⟩ := oB hf
    refine v_getF (pc := 6) C lk_X5_12 (gR_eq ex1) dX5_cells_6 ?_
    obtain ⟨b2, eb2, hf⟩ := oB hf
    obtain ⟨rb2, _, kb2⟩ := aIs_eq eb2
    obtain ⟨x3, ex3, hf⟩ := oB hf
    refine v_call (pc := 9) (d_V (pc := 9) C (As := []) (rest := [.int a3]) rb2 kb2 nt_15 q523 yi_J2_size_java_util_ArrayList yk_J2_size rfl (by decide) (by decide) (Nat.le_trans (aw_i aw_0) (by decide)) rfl (mJ2_size C.st ex3) dX5_cells_9) ?_
    refine v_icmp_ge (pc := 12) (tgt := 38) C dX5_cells_12 rfl (fun hc => ?_) (fun hc => ?_)
    · rw [if_pos hc] at hf
      exact V.sub [1] rfl (vX5_cells_p38 X hf)
    · rw [if_neg hc] at hf
      refine v_lload_n (pc := 15) (j := 1) C dX5_cells_15 rfl rfl ?_
      refine v_aload_n (pc := 16) (j := 0) C dX5_cells_16 rfl rfl ?_
      obtain ⟨x5, ex5, hf⟩ := oB hf
      refine v_getF (pc := 17) C lk_X5_12 (gR_eq ex5) dX5_cells_17 ?_
      refine v_iload_n (pc := 20) (j := 2) C dX5_cells_20 rfl rfl ?_
      obtain ⟨b6, eb6, hf⟩ := oB hf
      obtain ⟨rb6, _, kb6⟩ := aIs_eq eb6
      obtain ⟨x7, ex7, hf⟩ := oB hf
      refine v_call (pc := 21) (d_V (pc := 21) C (As := [.int a3]) (rest := [.long a1]) rb6 kb6 nt_15 q527 yi_J2_get_java_util_ArrayList yk_J2_get rfl (by decide) (by decide) (Nat.le_trans (aw_l aw_0) (by decide)) rfl (mJ2_get C.st ex7) dX5_cells_21) ?_
      obtain ⟨_, e9, hf⟩ := oB hf
      refine v_cast (pc := 24) C q541 ct_FigureSurvey_Stroke e9 dX5_cells_24 ?_
      obtain ⟨b10, eb10, hf⟩ := oB hf
      obtain ⟨rb10, _, kb10⟩ := aIs_eq eb10
      obtain ⟨x11, ex11, hf⟩ := oB hf
      refine v_call (pc := 27) (d_V (pc := 27) C (As := []) (rest := [.long a1]) rb10 kb10 nt_3 q542 yi_X4_known_FigureSurvey_Stroke yk_X4_known rfl (by decide) (by decide) (Nat.le_trans (aw_l aw_0) (by decide)) rfl (mX4_known C.st ex11) dX5_cells_27) ?_
      refine v_lor (pc := 30) C dX5_cells_30 ?_
      obtain ⟨x13, ex13, hf⟩ := oB hf
      refine vst (Option.some.inj ex13) (fun z => .long z :: []) ?_
      refine v_lstore_n (pc := 31) (lv' := [(1, true, .long x13), (0, false, va_rf a0), (3, false, .int a3)]) C dX5_cells_31 rfl (by decide) rfl ?_
      refine v_iinc (pc := 32) (j := 2) (v := (a3 + 1)) (lv' := [(3, false, .int (a3 + 1)), (1, true, .long x13), (0, false, va_rf a0)]) C dX5_cells_32 rfl rfl (by decide) rfl ?_
      refine v_goto (pc := 35) (tgt := 4) C dX5_cells_35 rfl ?_
      exact V.sub [2, 1, 0] rfl (ih _ _ _ _ hf)
def fX5_cells (D : aD) (h : aH) (a0 : Option Nat) : Option (Int64) :=
  fX5_cells_p4 D h FU a0 (0 : Int64) (0 : Int32)
theorem vX5_cells {h : aH} {a0 : Option Nat} {q : Int64} (X : aX p l R s m meth c D n0 s0 yX5_cells cX5_cells 3 64 4 (some .long) h0) (hf : fX5_cells D h a0 = some q) : V p l e R s m args below meth c D n0 s0 (aEnd D below args s h0 (.inr (some (.long q)), h)) h 0 [(0, false, va_rf a0)] [] := by
  have C := X.1
  unfold fX5_cells at hf
  refine v_lconst (pc := 0) (v := (0 : Int64)) C dX5_cells_0 rfl ?_
  refine v_lstore_n (pc := 1) (lv' := [(1, true, .long (0 : Int64)), (0, false, va_rf a0)]) C dX5_cells_1 rfl (by decide) rfl ?_
  refine v_iconst (pc := 2) (v := (0 : Int32)) C dX5_cells_2 rfl ?_
  refine v_istore_n (pc := 3) (lv' := [(3, false, .int (0 : Int32)), (1, true, .long (0 : Int64)), (0, false, va_rf a0)]) C dX5_cells_3 rfl (by decide) rfl ?_
  exact V.sub [2, 1, 0] rfl (vX5_cells_p4 X _ _ _ _ _ hf)
theorem mX5_cells {l : Launch} {D : aD} {h : aH} {a0 : Option Nat} {q : Int64} (hst : l.stackTraces = false) (hf : fX5_cells D h a0 = some q) : aM l D yX5_cells cX5_cells 4 (some .long) 3 64 [va_rf a0] h (.inr (some (.long q)), h) :=
  aM.ofX [(false, va_rf a0)] rfl (ap_r ap_0) (by decide +kernel) hst (al_of (aw_r aw_0) (by decide)) fun p e s m args below meth c X => V.sub (lv' := [(0, false, va_rf a0)]) [0] rfl (vX5_cells X hf)
def fX1_has (D : aD) (h : aH) (a0 : Int64) (a2 : Int32) : Option (Int32) :=
  if (lg_cmp ((a0.toUInt64 >>> (a2.toInt64.toUInt64 &&& Int64.toUInt64 63)).toInt64 &&& (1 : Int64)) (1 : Int64)) = 0 then
  (some (1 : Int32))
  else
  (some (0 : Int32))
theorem vX1_has {h : aH} {a0 : Int64} {a2 : Int32} {q : Int32} (X : aX p l R s m meth c D n0 s0 yX1_has cX1_has 0 0 3 (some .boolean) h0) (hf : fX1_has D h a0 a2 = some q) : V p l e R s m args below meth c D n0 s0 (aEnd D below args s h0 (.inr (some (.int q)), h)) h 0 [(0, true, .long a0), (2, false, .int a2)] [] := by
  have C := X.1
  unfold fX1_has at hf
  refine v_lload_n (pc := 0) (j := 0) C dX1_has_0 rfl rfl ?_
  refine v_iload_n (pc := 1) (j := 1) C dX1_has_1 rfl rfl ?_
  refine v_lushr (pc := 2) C dX1_has_2 ?_
  refine v_lconst (pc := 3) (v := (1 : Int64)) C dX1_has_3 rfl ?_
  refine v_land (pc := 4) C dX1_has_4 ?_
  refine v_lconst (pc := 5) (v := (1 : Int64)) C dX1_has_5 rfl ?_
  refine v_lcmp (pc := 6) C dX1_has_6 ?_
  refine v_if_ne (pc := 7) (tgt := 14) C dX1_has_7 rfl (fun hc => ?_) (fun hc => ?_)
  · rw [if_neg hc] at hf
    refine v_iconst (pc := 14) (v := (0 : Int32)) C dX1_has_14 rfl ?_
    cases hf
    exact v_zreturn (pc := 15) C X.2.1 X.2.2.1 X.2.2.2.1 (by decide) rfl dX1_has_15
  · rw [if_pos (Decidable.of_not_not hc)] at hf
    refine v_iconst (pc := 10) (v := (1 : Int32)) C dX1_has_10 rfl ?_
    refine v_goto (pc := 11) (tgt := 15) C dX1_has_11 rfl ?_
    cases hf
    exact v_zreturn (pc := 15) C X.2.1 X.2.2.1 X.2.2.2.1 (by decide) rfl dX1_has_15
theorem mX1_has {l : Launch} {D : aD} {h : aH} {a0 : Int64} {a2 : Int32} {q : Int32} (hst : l.stackTraces = false) (hf : fX1_has D h a0 a2 = some q) : aM l D yX1_has cX1_has 3 (some .boolean) 0 0 [.long a0, .int a2] h (.inr (some (.int q)), h) :=
  aM.ofX [(true, .long a0), (false, .int a2)] rfl (ap_c rfl (ap_c rfl ap_0)) (by decide +kernel) hst (al_of (aw_l (aw_i aw_0)) (by decide)) fun p e s m args below meth c X => V.sub (lv' := [(0, true, .long a0), (2, false, .int a2)]) [0, 1] rfl (vX1_has X hf)
def fX6_shifted_p79 (D : aD) (h : aH) (K5 : (Option Nat) → Int32 → Int32 → Int64 → Int32 → Option (Int64)) (a0 : Option Nat) (a1 : Int32) (a2 : Int32) (a3 : Int64) (a5 : Int32) : Option (Int64) :=
  K5 a0 a1 a2 a3 (a5 + 1)
theorem vX6_shifted_p79 {h : aH} {K5 : (Option Nat) → Int32 → Int32 → Int64 → Int32 → Option (Int64)} {a0 : Option Nat} {a1 : Int32} {a2 : Int32} {a3 : Int64} {a5 : Int32} {q : Int64} (X : aX p l R s m meth c D n0 s0 yX6_shifted cX6_shifted 1 22 8 (some .long) h0) (k5 : ∀ (a0 : Option Nat) (a1 : Int32) (a2 : Int32) (a3 : Int64) (a5 : Int32) (q : Int64), K5 a0 a1 a2 a3 a5 = some q → V p l e R s m args below meth c D n0 s0 (aEnd D below args s h0 (.inr (some (.long q)), h)) h 5 [(0, false, va_rf a0), (1, false, .int a1), (2, false, .int a2), (3, true, .long a3), (5, false, .int a5)] []) (hf : fX6_shifted_p79 D h K5 a0 a1 a2 a3 a5 = some q) : V p l e R s m args below meth c D n0 s0 (aEnd D below args s h0 (.inr (some (.long q)), h)) h 79 [(0, false, va_rf a0), (1, false, .int a1), (2, false, .int a2), (3, true, .long a3), (5, false, .int a5)] [] := by
  have C := X.1
  unfold fX6_shifted_p79 at hf
  refine v_iinc (pc := 79) (j := 4) (v := (a5 + 1)) (lv' := [(5, false, .int (a5 + 1)), (0, false, va_rf a0), (1, false, .int a1), (2, false, .int a2), (3, true, .long a3)]) C dX6_shifted_79 rfl rfl (by decide) rfl ?_
  refine v_goto (pc := 82) (tgt := 5) C dX6_shifted_82 rfl ?_
  exact V.sub [1, 2, 3, 4, 0] rfl (k5 _ _ _ _ _ _ hf)
def fX6_shifted_p85 (D : aD) (h : aH) (a3 : Int64) : Option (Int64) :=
  some a3
theorem vX6_shifted_p85 {h : aH} {a3 : Int64} {q : Int64} (X : aX p l R s m meth c D n0 s0 yX6_shifted cX6_shifted 1 22 8 (some .long) h0) (hf : fX6_shifted_p85 D h a3 = some q) : V p l e R s m args below meth c D n0 s0 (aEnd D below args s h0 (.inr (some (.long q)), h)) h 85 [(3, true, .long a3)] [] := by
  have C := X.1
  unfold fX6_shifted_p85 at hf
  refine v_lload_n (pc := 85) (j := 0) C dX6_shifted_85 rfl rfl ?_
  cases hf
  exact v_lreturn (pc := 86) C X.2.1 X.2.2.1 X.2.2.2.1 rfl dX6_shifted_86
def fX6_shifted_p5 (D : aD) (h : aH) : Nat → (Option Nat) → Int32 → Int32 → Int64 → Int32 → Option (Int64)
  | 0, _, _, _, _, _ => none
  | n + 1, a0, a1, a2, a3, a5 =>
  if (64 : Int32) ≤ a5 then
  (fX6_shifted_p85 D h a3)
  else
  ((some (((a5 - a5 / (8 : Int32) * (8 : Int32)) + a1))).bind fun x1 =>
  (some (((a5 / (8 : Int32)) + a2))).bind fun x2 =>
  (gL h 5 2 a0).bind fun x3 =>
  (fX1_has D h x3 a5).bind fun x5 =>
  if x5 = 0 then
  (fX6_shifted_p79 D h (fX6_shifted_p5 D h n) a0 a1 a2 a3 a5)
  else
  (if x1 < 0 then
  (fX6_shifted_p79 D h (fX6_shifted_p5 D h n) a0 a1 a2 a3 a5)
  else
  (if (8 : Int32) ≤ x1 then
  (fX6_shifted_p79 D h (fX6_shifted_p5 D h n) a0 a1 a2 a3 a5)
  else
  (if x2 < 0 then
  (fX6_shifted_p79 D h (fX6_shifted_p5 D h n) a0 a1 a2 a3 a5)
  else
  (if (8 : Int32) ≤ x2 then
  (fX6_shifted_p79 D h (fX6_shifted_p5 D h n) a0 a1 a2 a3 a5)
  else
  ((some ((a3 ||| ((1 : Int64) <<< ((((8 : Int32) * x2) + x1).toInt64 &&& 63))))).bind fun x7 =>
  fX6_shifted_p79 D h (fX6_shifted_p5 D h n) a0 a1 a2 x7 a5))))))
theorem vX6_shifted_p5 {h : aH} (X : aX p l R s m meth c D n0 s0 yX6_shifted cX6_shifted 1 22 8 (some .long) h0) : ∀ (n : Nat) (a0 : Option Nat) (a1 : Int32) (a2 : Int32) (a3 : Int64) (a5 : Int32) (q : Int64), fX6_shifted_p5 D h n a0 a1 a2 a3 a5 = some q → V p l e R s m args below meth c D n0 s0 (aEnd D below args s h0 (.inr (some (.long q)), h)) h 5 [(0, false, va_rf a0), (1, false, .int a1), (2, false, .int a2), (3, true, .long a3), (5, false, .int a5)] [] := by
  have C := X.1
  intro n
  induction n with
  | zero =>
    intro _ _ _ _ _ _ hf
    rw [fX6_shifted_p5] at hf
    cases hf
  | succ n ih =>
    intro a0 a1 a2 a3 a5 q hf
    rw [fX6_shifted_p5] at hf
    refine v_iload (pc := 5) (j := 4) C dX6_shifted_5 rfl ?_
    refine v_bipush (pc := 7) (v := (64 : Int32)) C dX6_shifted_7 rfl ?_
    refine v_icmp_ge (pc := 9) (tgt := 85) C dX6_shifted_9 rfl (fun hc => ?_) (fun hc => ?_)
    · rw [if_pos hc] at hf
      exact V.sub [3] rfl (vX6_shifted_p85 X hf)
    · rw [if_neg hc] at hf
      refine v_iload (pc := 12) (j := 4) C dX6_shifted_12 rfl ?_
      refine v_bipush (pc := 14) (v := (8 : Int32)) C dX6_shifted_14 rfl ?_
      refine v_irem (pc := 16) C dX6_shifted_16 (by decide) ?_
      refine v_iload_n (pc := 17) (j := 1) C dX6_shifted_17 rfl rfl ?_
      refine v_iadd (pc := 18) C dX6_shifted_18 ?_
      obtain ⟨x1, ex1, hf⟩ := oB hf
      refine vst (Option.some.inj ex1) (fun z => .int z :: []) ?_
      refine v_istore (pc := 19) (lv' := [(6, false, .int x1), (0, false, va_rf a0), (1, false, .int a1), (2, false, .int a2), (3, true, .long a3), (5, false, .int a5)]) C dX6_shifted_19 (by decide) rfl ?_
      refine v_iload (pc := 21) (j := 5) C dX6_shifted_21 rfl ?_
      refine v_bipush (pc := 23) (v := (8 : Int32)) C dX6_shifted_23 rfl ?_
      refine v_idiv (pc := 25) C dX6_shifted_25 (by decide) ?_
      refine v_iload_n (pc := 26) (j := 3) C dX6_shifted_26 rfl rfl ?_
      refine v_iadd (pc := 27) C dX6_shifted_27 ?_
      obtain ⟨x2, ex2, hf⟩ := oB hf
      refine vst (Option.some.inj ex2) (fun z => .int z :: []) ?_
      refine v_istore (pc := 28) (lv' := [(7, false, .int x2), (6, false, .int x1), (0, false, va_rf a0), (1, false, .int a1), (2, false, .int a2), (3, true, .long a3), (5, false, .int a5)]) C dX6_shifted_28 (by decide) rfl ?_
      refine v_aload_n (pc := 30) (j := 2) C dX6_shifted_30 rfl rfl ?_
      obtain ⟨x3, ex3, hf⟩ := oB hf
      refine v_getF (pc := 31) C lk_X6_19 (gL_eq ex3) dX6_shifted_31 ?_
      refine v_iload (pc := 34) (j := 6) C dX6_shifted_34 rfl ?_
      obtain ⟨x5, ex5, hf⟩ := oB hf
      refine v_call (pc := 36) (d_SN (pc := 36) C (As := [.long x3, .int a5]) (rest := []) q554 q555 yk_X1_has rfl (by decide) (by decide) (Nat.le_trans aw_0 (by decide)) rfl (mX1_has C.st ex5) dX6_shifted_36) ?_
      refine v_if_eq (pc := 39) (tgt := 79) C dX6_shifted_39 rfl (fun hc => ?_) (fun hc => ?_)
      · rw [if_pos hc] at hf
        exact V.sub [2, 3, 4, 5, 6] rfl (vX6_shifted_p79 X ih hf)
      · rw [if_neg hc] at hf
        refine v_iload (pc := 42) (j := 1) C dX6_shifted_42 rfl ?_
        refine v_if_lt (pc := 44) (tgt := 79) C dX6_shifted_44 rfl (fun hc => ?_) (fun hc => ?_)
        · rw [if_pos hc] at hf
          exact V.sub [2, 3, 4, 5, 6] rfl (vX6_shifted_p79 X ih hf)
        · rw [if_neg hc] at hf
          refine v_iload (pc := 47) (j := 1) C dX6_shifted_47 rfl ?_
          refine v_bipush (pc := 49) (v := (8 : Int32)) C dX6_shifted_49 rfl ?_
          refine v_icmp_ge (pc := 51) (tgt := 79) C dX6_shifted_51 rfl (fun hc => ?_) (fun hc => ?_)
          · rw [if_pos hc] at hf
            exact V.sub [2, 3, 4, 5, 6] rfl (vX6_shifted_p79 X ih hf)
          · rw [if_neg hc] at hf
            refine v_iload (pc := 54) (j := 0) C dX6_shifted_54 rfl ?_
            refine v_if_lt (pc := 56) (tgt := 79) C dX6_shifted_56 rfl (fun hc => ?_) (fun hc => ?_)
            · rw [if_pos hc] at hf
              exact V.sub [2, 3, 4, 5, 6] rfl (vX6_shifted_p79 X ih hf)
            · rw [if_neg hc] at hf
              refine v_iload (pc := 59) (j := 0) C dX6_shifted_59 rfl ?_
              refine v_bipush (pc := 61) (v := (8 : Int32)) C dX6_shifted_61 rfl ?_
              refine v_icmp_ge (pc := 63) (tgt := 79) C dX6_shifted_63 rfl (fun hc => ?_) (fun hc => ?_)
              · rw [if_pos hc] at hf
                exact V.sub [2, 3, 4, 5, 6] rfl (vX6_shifted_p79 X ih hf)
              · rw [if_neg hc] at hf
                refine v_lload_n (pc := 66) (j := 5) C dX6_shifted_66 rfl rfl ?_
                refine v_lconst (pc := 67) (v := (1 : Int64)) C dX6_shifted_67 rfl ?_
                refine v_bipush (pc := 68) (v := (8 : Int32)) C dX6_shifted_68 rfl ?_
                refine v_iload (pc := 70) (j := 0) C dX6_shifted_70 rfl ?_
                refine v_imul (pc := 72) C dX6_shifted_72 ?_
                refine v_iload (pc := 73) (j := 1) C dX6_shifted_73 rfl ?_
                refine v_iadd (pc := 75) C dX6_shifted_75 ?_
                refine v_lshl (pc := 76) C dX6_shifted_76 ?_
                refine v_lor (pc := 77) C dX6_shifted_77 ?_
                obtain ⟨x7, ex7, hf⟩ := oB hf
                refine vst (Option.some.inj ex7) (fun z => .long z :: []) ?_
                refine v_lstore_n (pc := 78) (lv' := [(3, true, .long x7), (7, false, .int x2), (6, false, .int x1), (0, false, va_rf a0), (1, false, .int a1), (2, false, .int a2), (5, false, .int a5)]) C dX6_shifted_78 rfl (by decide) rfl ?_
                exact V.sub [3, 4, 5, 0, 6] rfl (vX6_shifted_p79 X ih hf)
def fX6_shifted (D : aD) (h : aH) (a0 : Option Nat) (a1 : Int32) (a2 : Int32) : Option (Int64) :=
  fX6_shifted_p5 D h FU a0 a1 a2 (0 : Int64) (0 : Int32)
theorem vX6_shifted {h : aH} {a0 : Option Nat} {a1 : Int32} {a2 : Int32} {q : Int64} (X : aX p l R s m meth c D n0 s0 yX6_shifted cX6_shifted 1 22 8 (some .long) h0) (hf : fX6_shifted D h a0 a1 a2 = some q) : V p l e R s m args below meth c D n0 s0 (aEnd D below args s h0 (.inr (some (.long q)), h)) h 0 [(0, false, va_rf a0), (1, false, .int a1), (2, false, .int a2)] [] := by
  have C := X.1
  unfold fX6_shifted at hf
  refine v_lconst (pc := 0) (v := (0 : Int64)) C dX6_shifted_0 rfl ?_
  refine v_lstore_n (pc := 1) (lv' := [(3, true, .long (0 : Int64)), (0, false, va_rf a0), (1, false, .int a1), (2, false, .int a2)]) C dX6_shifted_1 rfl (by decide) rfl ?_
  refine v_iconst (pc := 2) (v := (0 : Int32)) C dX6_shifted_2 rfl ?_
  refine v_istore (pc := 3) (lv' := [(5, false, .int (0 : Int32)), (3, true, .long (0 : Int64)), (0, false, va_rf a0), (1, false, .int a1), (2, false, .int a2)]) C dX6_shifted_3 (by decide) rfl ?_
  exact V.sub [2, 3, 4, 1, 0] rfl (vX6_shifted_p5 X _ _ _ _ _ _ _ hf)
theorem mX6_shifted {l : Launch} {D : aD} {h : aH} {a0 : Option Nat} {a1 : Int32} {a2 : Int32} {q : Int64} (hst : l.stackTraces = false) (hf : fX6_shifted D h a0 a1 a2 = some q) : aM l D yX6_shifted cX6_shifted 8 (some .long) 1 22 [va_rf a0, .int a1, .int a2] h (.inr (some (.long q)), h) :=
  aM.ofX [(false, va_rf a0), (false, .int a1), (false, .int a2)] rfl (ap_r (ap_c rfl (ap_c rfl ap_0))) (by decide +kernel) hst (al_of (aw_r (aw_i (aw_i aw_0))) (by decide)) fun p e s m args below meth c X => V.sub (lv' := [(0, false, va_rf a0), (1, false, .int a1), (2, false, .int a2)]) [0, 1, 2] rfl (vX6_shifted X hf)
def fX7_init (D : aD) (h : aH) (a0 : Option Nat) (a1 : Int32) (a2 : Int32) (a3 : Int32) : Option (aH) :=
  (a0).bind fun _ =>
  (pF D h 6 0 a0 (.int a1)).bind fun h2 =>
  (pF D h2 6 1 a0 (.int a2)).bind fun h3 =>
  (pF D h3 6 2 a0 (.int a3)).bind fun h4 =>
  some h4
theorem vX7_init {h : aH} {a0 : Option Nat} {a1 : Int32} {a2 : Int32} {a3 : Int32} {g : aH} (X : aX p l R s m meth c D n0 s0 yX7_init cX7_init 1 12 4 (none) h0) (hf : fX7_init D h a0 a1 a2 a3 = some g) : V p l e R s m args below meth c D n0 s0 (aEnd D below args s h0 (.inr none, g)) h 0 [(0, false, va_rf a0), (1, false, .int a1), (2, false, .int a2), (3, false, .int a3)] [] := by
  have C := X.1
  unfold fX7_init at hf
  refine v_aload_n (pc := 0) (j := 0) C dX7_init_0 rfl rfl ?_
  obtain ⟨_, e1, hf⟩ := oB hf
  refine v_objInit (pc := 1) C e1 q566 q138 q139 (by decide) (Nat.le_trans (Nat.add_le_add_right aw_0 12) (by decide)) dX7_init_1 ?_
  refine v_aload_n (pc := 4) (j := 0) C dX7_init_4 rfl rfl ?_
  refine v_iload_n (pc := 5) (j := 1) C dX7_init_5 rfl rfl ?_
  obtain ⟨h2, eh2, hf⟩ := oB hf
  refine v_putC (pc := 6) C X.2.2.2.2.2.1 lk_X7_7 rfl q567 tyX7 tyX7_ok nmX7 (tyX7_ok 0 (by decide)) rfl rfl eh2 dX7_init_6 ?_
  refine v_aload_n (pc := 9) (j := 0) C dX7_init_9 rfl rfl ?_
  refine v_iload_n (pc := 10) (j := 2) C dX7_init_10 rfl rfl ?_
  obtain ⟨h3, eh3, hf⟩ := oB hf
  refine v_putC (pc := 11) C X.2.2.2.2.2.1 lk_X7_13 rfl q570 tyX7 tyX7_ok nmX7 (tyX7_ok 1 (by decide)) rfl rfl eh3 dX7_init_11 ?_
  refine v_aload_n (pc := 14) (j := 0) C dX7_init_14 rfl rfl ?_
  refine v_iload_n (pc := 15) (j := 3) C dX7_init_15 rfl rfl ?_
  obtain ⟨h4, eh4, hf⟩ := oB hf
  refine v_putC (pc := 16) C X.2.2.2.2.2.1 lk_X7_16 rfl q573 tyX7 tyX7_ok nmX7 (tyX7_ok 2 (by decide)) rfl rfl eh4 dX7_init_16 ?_
  cases hf
  exact v_return (pc := 19) C X.2.1 X.2.2.1 X.2.2.2.1 rfl dX7_init_19
theorem mX7_init {l : Launch} {D : aD} {h : aH} {a0 : Option Nat} {a1 : Int32} {a2 : Int32} {a3 : Int32} {g : aH} (hst : l.stackTraces = false) (hf : fX7_init D h a0 a1 a2 a3 = some g) : aM l D yX7_init cX7_init 4 (none) 1 12 [va_rf a0, .int a1, .int a2, .int a3] h (.inr none, g) :=
  aM.ofX [(false, va_rf a0), (false, .int a1), (false, .int a2), (false, .int a3)] rfl (ap_r (ap_c rfl (ap_c rfl (ap_c rfl ap_0)))) (by decide +kernel) hst (al_of (aw_r (aw_i (aw_i (aw_i aw_0)))) (by decide)) fun p e s m args below meth c X => V.sub (lv' := [(0, false, va_rf a0), (1, false, .int a1), (2, false, .int a2), (3, false, .int a3)]) [0, 1, 2, 3] rfl (vX7_init X hf)
def fX7_way (D : aD) (h : aH) (a0 : Option Nat) : Option (Int32) :=
  (gI h 6 0 a0).bind fun x1 =>
  (fJ11_abs D h x1).bind fun x3 =>
  (gI h 6 1 a0).bind fun x5 =>
  (fJ11_abs D h x5).bind fun x7 =>
  some (x3 + x7)
theorem vX7_way {h : aH} {a0 : Option Nat} {q : Int32} (X : aX p l R s m meth c D n0 s0 yX7_way cX7_way 1 20 1 (some .int) h0) (hf : fX7_way D h a0 = some q) : V p l e R s m args below meth c D n0 s0 (aEnd D below args s h0 (.inr (some (.int q)), h)) h 0 [(0, false, va_rf a0)] [] := by
  have C := X.1
  unfold fX7_way at hf
  refine v_aload_n (pc := 0) (j := 0) C dX7_way_0 rfl rfl ?_
  obtain ⟨x1, ex1, hf⟩ := oB hf
  refine v_getF (pc := 1) C lk_X7_7 (gI_eq ex1) dX7_way_1 ?_
  obtain ⟨x3, ex3, hf⟩ := oB hf
  refine v_call (pc := 4) (d_S (pc := 4) C (As := [.int x1]) (rest := []) q591 q592 yk_J11_abs rfl (by decide) (by decide) (Nat.le_trans aw_0 (by decide)) rfl (mJ11_abs C.st ex3) dX7_way_4) ?_
  refine v_aload_n (pc := 7) (j := 0) C dX7_way_7 rfl rfl ?_
  obtain ⟨x5, ex5, hf⟩ := oB hf
  refine v_getF (pc := 8) C lk_X7_13 (gI_eq ex5) dX7_way_8 ?_
  obtain ⟨x7, ex7, hf⟩ := oB hf
  refine v_call (pc := 11) (d_S (pc := 11) C (As := [.int x5]) (rest := [.int x3]) q591 q592 yk_J11_abs rfl (by decide) (by decide) (Nat.le_trans (aw_i aw_0) (by decide)) rfl (mJ11_abs C.st ex7) dX7_way_11) ?_
  refine v_iadd (pc := 14) C dX7_way_14 ?_
  cases hf
  exact v_ireturn (pc := 15) C X.2.1 X.2.2.1 X.2.2.2.1 rfl dX7_way_15
theorem mX7_way {l : Launch} {D : aD} {h : aH} {a0 : Option Nat} {q : Int32} (hst : l.stackTraces = false) (hf : fX7_way D h a0 = some q) : aM l D yX7_way cX7_way 1 (some .int) 1 20 [va_rf a0] h (.inr (some (.int q)), h) :=
  aM.ofX [(false, va_rf a0)] rfl (ap_r ap_0) (by decide +kernel) hst (al_of (aw_r aw_0) (by decide)) fun p e s m args below meth c X => V.sub (lv' := [(0, false, va_rf a0)]) [0] rfl (vX7_way X hf)
def fX7_compareTo (D : aD) (h : aH) (a0 : Option Nat) (a1 : Option Nat) : Option (Int32) :=
  (gI h 6 2 a0).bind fun x1 =>
  (gI h 6 2 a1).bind fun x2 =>
  if x1 = x2 then
  ((aIs h 6 a0).bind fun _ =>
  (fX7_way D h a0).bind fun x4 =>
  (aIs h 6 a1).bind fun _ =>
  (fX7_way D h a1).bind fun x7 =>
  if x4 = x7 then
  ((gI h 6 1 a0).bind fun x9 =>
  (gI h 6 1 a1).bind fun x10 =>
  if x9 = x10 then
  ((gI h 6 0 a0).bind fun x11 =>
  (gI h 6 0 a1).bind fun x12 =>
  (fJ19_compare D h x11 x12).bind fun x14 =>
  some x14)
  else
  ((gI h 6 1 a0).bind fun x16 =>
  (gI h 6 1 a1).bind fun x17 =>
  (fJ19_compare D h x16 x17).bind fun x19 =>
  some x19))
  else
  ((aIs h 6 a0).bind fun _ =>
  (fX7_way D h a0).bind fun x22 =>
  (aIs h 6 a1).bind fun _ =>
  (fX7_way D h a1).bind fun x25 =>
  (fJ19_compare D h x22 x25).bind fun x28 =>
  some x28))
  else
  ((gI h 6 2 a1).bind fun x30 =>
  (gI h 6 2 a0).bind fun x31 =>
  (fJ19_compare D h x30 x31).bind fun x33 =>
  some x33)
theorem vX7_compareTo {h : aH} {a0 : Option Nat} {a1 : Option Nat} {q : Int32} (X : aX p l R s m meth c D n0 s0 yX7_compareTo cX7_compareTo 2 40 2 (some .int) h0) (hf : fX7_compareTo D h a0 a1 = some q) : V p l e R s m args below meth c D n0 s0 (aEnd D below args s h0 (.inr (some (.int q)), h)) h 0 [(0, false, va_rf a0), (1, false, va_rf a1)] [] := by
  have C := X.1
  unfold fX7_compareTo at hf
  refine v_aload_n (pc := 0) (j := 0) C dX7_compareTo_0 rfl rfl ?_
  obtain ⟨x1, ex1, hf⟩ := oB hf
  refine v_getF (pc := 1) C lk_X7_16 (gI_eq ex1) dX7_compareTo_1 ?_
  refine v_aload_n (pc := 4) (j := 1) C dX7_compareTo_4 rfl rfl ?_
  obtain ⟨x2, ex2, hf⟩ := oB hf
  refine v_getF (pc := 5) C lk_X7_16 (gI_eq ex2) dX7_compareTo_5 ?_
  refine v_icmp_eq (pc := 8) (tgt := 23) C dX7_compareTo_8 rfl (fun hc => ?_) (fun hc => ?_)
  · rw [if_pos hc] at hf
    refine v_aload_n (pc := 23) (j := 0) C dX7_compareTo_23 rfl rfl ?_
    obtain ⟨b3, eb3, hf⟩ := oB hf
    obtain ⟨rb3, _, kb3⟩ := aIs_eq eb3
    obtain ⟨x4, ex4, hf⟩ := oB hf
    refine v_call (pc := 24) (d_V (pc := 24) C (As := []) (rest := []) rb3 kb3 nt_6 q587 yi_X7_way_FigureSurvey_Shift yk_X7_way rfl (by decide) (by decide) (Nat.le_trans aw_0 (by decide)) rfl (mX7_way C.st ex4) dX7_compareTo_24) ?_
    refine v_aload_n (pc := 27) (j := 1) C dX7_compareTo_27 rfl rfl ?_
    obtain ⟨b6, eb6, hf⟩ := oB hf
    obtain ⟨rb6, _, kb6⟩ := aIs_eq eb6
    obtain ⟨x7, ex7, hf⟩ := oB hf
    refine v_call (pc := 28) (d_V (pc := 28) C (As := []) (rest := [.int x4]) rb6 kb6 nt_6 q587 yi_X7_way_FigureSurvey_Shift yk_X7_way rfl (by decide) (by decide) (Nat.le_trans (aw_i aw_0) (by decide)) rfl (mX7_way C.st ex7) dX7_compareTo_28) ?_
    refine v_icmp_eq (pc := 31) (tgt := 46) C dX7_compareTo_31 rfl (fun hc => ?_) (fun hc => ?_)
    · rw [if_pos hc] at hf
      refine v_aload_n (pc := 46) (j := 0) C dX7_compareTo_46 rfl rfl ?_
      obtain ⟨x9, ex9, hf⟩ := oB hf
      refine v_getF (pc := 47) C lk_X7_13 (gI_eq ex9) dX7_compareTo_47 ?_
      refine v_aload_n (pc := 50) (j := 1) C dX7_compareTo_50 rfl rfl ?_
      obtain ⟨x10, ex10, hf⟩ := oB hf
      refine v_getF (pc := 51) C lk_X7_13 (gI_eq ex10) dX7_compareTo_51 ?_
      refine v_icmp_eq (pc := 54) (tgt := 71) C dX7_compareTo_54 rfl (fun hc => ?_) (fun hc => ?_)
      · rw [if_pos hc] at hf
        refine v_aload_n (pc := 71) (j := 0) C dX7_compareTo_71 rfl rfl ?_
        obtain ⟨x11, ex11, hf⟩ := oB hf
        refine v_getF (pc := 72) C lk_X7_7 (gI_eq ex11) dX7_compareTo_72 ?_
        refine v_aload_n (pc := 75) (j := 1) C dX7_compareTo_75 rfl rfl ?_
        obtain ⟨x12, ex12, hf⟩ := oB hf
        refine v_getF (pc := 76) C lk_X7_7 (gI_eq ex12) dX7_compareTo_76 ?_
        obtain ⟨x14, ex14, hf⟩ := oB hf
        refine v_call (pc := 79) (d_S (pc := 79) C (As := [.int x11, .int x12]) (rest := []) q586 q505 yk_J19_compare rfl (by decide) (by decide) (Nat.le_trans aw_0 (by decide)) rfl (mJ19_compare C.st ex14) dX7_compareTo_79) ?_
        cases hf
        exact v_ireturn (pc := 82) C X.2.1 X.2.2.1 X.2.2.2.1 rfl dX7_compareTo_82
      · rw [if_neg hc] at hf
        refine v_aload_n (pc := 57) (j := 0) C dX7_compareTo_57 rfl rfl ?_
        obtain ⟨x16, ex16, hf⟩ := oB hf
        refine v_getF (pc := 58) C lk_X7_13 (gI_eq ex16) dX7_compareTo_58 ?_
        refine v_aload_n (pc := 61) (j := 1) C dX7_compareTo_61 rfl rfl ?_
        obtain ⟨x17, ex17, hf⟩ := oB hf
        refine v_getF (pc := 62) C lk_X7_13 (gI_eq ex17) dX7_compareTo_62 ?_
        obtain ⟨x19, ex19, hf⟩ := oB hf
        refine v_call (pc := 65) (d_S (pc := 65) C (As := [.int x16, .int x17]) (rest := []) q586 q505 yk_J19_compare rfl (by decide) (by decide) (Nat.le_trans aw_0 (by decide)) rfl (mJ19_compare C.st ex19) dX7_compareTo_65) ?_
        refine v_goto (pc := 68) (tgt := 82) C dX7_compareTo_68 rfl ?_
        cases hf
        exact v_ireturn (pc := 82) C X.2.1 X.2.2.1 X.2.2.2.1 rfl dX7_compareTo_82
    · rw [if_neg hc] at hf
      refine v_aload_n (pc := 34) (j := 0) C dX7_compareTo_34 rfl rfl ?_
      obtain ⟨b21, eb21, hf⟩ := oB hf
      obtain ⟨rb21, _, kb21⟩ := aIs_eq eb21
      obtain ⟨x22, ex22, hf⟩ := oB hf
      refine v_call (pc := 35) (d_V (pc := 35) C (As := []) (rest := []) rb21 kb21 nt_6 q587 yi_X7_way_FigureSurvey_Shift yk_X7_way rfl (by decide) (by decide) (Nat.le_trans aw_0 (by decide)) rfl (mX7_way C.st ex22) dX7_compareTo_35) ?_
      refine v_aload_n (pc := 38) (j := 1) C dX7_compareTo_38 rfl rfl ?_
      obtain ⟨b24, eb24, hf⟩ := oB hf
      obtain ⟨rb24, _, kb24⟩ := aIs_eq eb24
      obtain ⟨x25, ex25, hf⟩ := oB hf
      refine v_call (pc := 39) (d_V (pc := 39) C (As := []) (rest := [.int x22]) rb24 kb24 nt_6 q587 yi_X7_way_FigureSurvey_Shift yk_X7_way rfl (by decide) (by decide) (Nat.le_trans (aw_i aw_0) (by decide)) rfl (mX7_way C.st ex25) dX7_compareTo_39) ?_
      obtain ⟨x28, ex28, hf⟩ := oB hf
      refine v_call (pc := 42) (d_S (pc := 42) C (As := [.int x22, .int x25]) (rest := []) q586 q505 yk_J19_compare rfl (by decide) (by decide) (Nat.le_trans aw_0 (by decide)) rfl (mJ19_compare C.st ex28) dX7_compareTo_42) ?_
      cases hf
      exact v_ireturn (pc := 45) C X.2.1 X.2.2.1 X.2.2.2.1 rfl dX7_compareTo_45
  · rw [if_neg hc] at hf
    refine v_aload_n (pc := 11) (j := 1) C dX7_compareTo_11 rfl rfl ?_
    obtain ⟨x30, ex30, hf⟩ := oB hf
    refine v_getF (pc := 12) C lk_X7_16 (gI_eq ex30) dX7_compareTo_12 ?_
    refine v_aload_n (pc := 15) (j := 0) C dX7_compareTo_15 rfl rfl ?_
    obtain ⟨x31, ex31, hf⟩ := oB hf
    refine v_getF (pc := 16) C lk_X7_16 (gI_eq ex31) dX7_compareTo_16 ?_
    obtain ⟨x33, ex33, hf⟩ := oB hf
    refine v_call (pc := 19) (d_S (pc := 19) C (As := [.int x30, .int x31]) (rest := []) q586 q505 yk_J19_compare rfl (by decide) (by decide) (Nat.le_trans aw_0 (by decide)) rfl (mJ19_compare C.st ex33) dX7_compareTo_19) ?_
    cases hf
    exact v_ireturn (pc := 22) C X.2.1 X.2.2.1 X.2.2.2.1 rfl dX7_compareTo_22
theorem mX7_compareTo {l : Launch} {D : aD} {h : aH} {a0 : Option Nat} {a1 : Option Nat} {q : Int32} (hst : l.stackTraces = false) (hf : fX7_compareTo D h a0 a1 = some q) : aM l D yX7_compareTo cX7_compareTo 2 (some .int) 2 40 [va_rf a0, va_rf a1] h (.inr (some (.int q)), h) :=
  aM.ofX [(false, va_rf a0), (false, va_rf a1)] rfl (ap_r (ap_r ap_0)) (by decide +kernel) hst (al_of (aw_r (aw_r aw_0)) (by decide)) fun p e s m args below meth c X => V.sub (lv' := [(0, false, va_rf a0), (1, false, va_rf a1)]) [0, 1] rfl (vX7_compareTo X hf)
def fX6_best_p72 (D : aD) (K14 : aH → (Option Nat) → Int64 → (Option Nat) → Int32 → Option (Option Nat × aH)) (K24 : aH → (Option Nat) → Int64 → (Option Nat) → Int32 → Int32 → Option (Option Nat × aH)) (h : aH) (a0 : Option Nat) (a1 : Int64) (a3 : Option Nat) (a4 : Int32) (a5 : Int32) : Option (Option Nat × aH) :=
  K24 h a0 a1 a3 a4 (a5 + 1)
theorem vX6_best_p72 {h : aH} {K14 : aH → (Option Nat) → Int64 → (Option Nat) → Int32 → Option (Option Nat × aH)} {K24 : aH → (Option Nat) → Int64 → (Option Nat) → Int32 → Int32 → Option (Option Nat × aH)} {a0 : Option Nat} {a1 : Int64} {a3 : Option Nat} {a4 : Int32} {a5 : Int32} {q : Option Nat} {g : aH} (X : aX p l R s m meth c D n0 s0 yX6_best cX6_best 4 87 7 (some (.object "FigureSurvey$Shift")) h0) (k14 : ∀ (h : aH) (a0 : Option Nat) (a1 : Int64) (a3 : Option Nat) (a4 : Int32) (q : Option Nat) (g : aH), K14 h a0 a1 a3 a4 = some (q, g) → V p l e R s m args below meth c D n0 s0 (aEnd D below args s h0 (.inr (some (va_rf q)), g)) h 14 [(0, false, va_rf a0), (1, true, .long a1), (3, false, va_rf a3), (4, false, .int a4)] []) (k24 : ∀ (h : aH) (a0 : Option Nat) (a1 : Int64) (a3 : Option Nat) (a4 : Int32) (a5 : Int32) (q : Option Nat) (g : aH), K24 h a0 a1 a3 a4 a5 = some (q, g) → V p l e R s m args below meth c D n0 s0 (aEnd D below args s h0 (.inr (some (va_rf q)), g)) h 24 [(0, false, va_rf a0), (1, true, .long a1), (3, false, va_rf a3), (4, false, .int a4), (5, false, .int a5)] []) (hf : fX6_best_p72 D K14 K24 h a0 a1 a3 a4 a5 = some (q, g)) : V p l e R s m args below meth c D n0 s0 (aEnd D below args s h0 (.inr (some (va_rf q)), g)) h 72 [(0, false, va_rf a0), (1, true, .long a1), (3, false, va_rf a3), (4, false, .int a4), (5, false, .int a5)] [] := by
  have C := X.1
  unfold fX6_best_p72 at hf
  refine v_iinc (pc := 72) (j := 4) (v := (a5 + 1)) (lv' := [(5, false, .int (a5 + 1)), (0, false, va_rf a0), (1, true, .long a1), (3, false, va_rf a3), (4, false, .int a4)]) C dX6_best_72 rfl rfl (by decide) rfl ?_
  refine v_goto (pc := 75) (tgt := 24) C dX6_best_75 rfl ?_
  exact V.sub [1, 2, 3, 4, 0] rfl (k24 _ _ _ _ _ _ _ _ hf)
def fX6_best_p69 (D : aD) (K14 : aH → (Option Nat) → Int64 → (Option Nat) → Int32 → Option (Option Nat × aH)) (K24 : aH → (Option Nat) → Int64 → (Option Nat) → Int32 → Int32 → Option (Option Nat × aH)) (h : aH) (a0 : Option Nat) (a1 : Int64) (a4 : Int32) (a5 : Int32) (a6 : Option Nat) : Option (Option Nat × aH) :=
  fX6_best_p72 D K14 K24 h a0 a1 a6 a4 a5
theorem vX6_best_p69 {h : aH} {K14 : aH → (Option Nat) → Int64 → (Option Nat) → Int32 → Option (Option Nat × aH)} {K24 : aH → (Option Nat) → Int64 → (Option Nat) → Int32 → Int32 → Option (Option Nat × aH)} {a0 : Option Nat} {a1 : Int64} {a4 : Int32} {a5 : Int32} {a6 : Option Nat} {q : Option Nat} {g : aH} (X : aX p l R s m meth c D n0 s0 yX6_best cX6_best 4 87 7 (some (.object "FigureSurvey$Shift")) h0) (k14 : ∀ (h : aH) (a0 : Option Nat) (a1 : Int64) (a3 : Option Nat) (a4 : Int32) (q : Option Nat) (g : aH), K14 h a0 a1 a3 a4 = some (q, g) → V p l e R s m args below meth c D n0 s0 (aEnd D below args s h0 (.inr (some (va_rf q)), g)) h 14 [(0, false, va_rf a0), (1, true, .long a1), (3, false, va_rf a3), (4, false, .int a4)] []) (k24 : ∀ (h : aH) (a0 : Option Nat) (a1 : Int64) (a3 : Option Nat) (a4 : Int32) (a5 : Int32) (q : Option Nat) (g : aH), K24 h a0 a1 a3 a4 a5 = some (q, g) → V p l e R s m args below meth c D n0 s0 (aEnd D below args s h0 (.inr (some (va_rf q)), g)) h 24 [(0, false, va_rf a0), (1, true, .long a1), (3, false, va_rf a3), (4, false, .int a4), (5, false, .int a5)] []) (hf : fX6_best_p69 D K14 K24 h a0 a1 a4 a5 a6 = some (q, g)) : V p l e R s m args below meth c D n0 s0 (aEnd D below args s h0 (.inr (some (va_rf q)), g)) h 69 [(0, false, va_rf a0), (1, true, .long a1), (4, false, .int a4), (5, false, .int a5), (6, false, va_rf a6)] [] := by
  have C := X.1
  unfold fX6_best_p69 at hf
  refine v_aload (pc := 69) (j := 4) C dX6_best_69 rfl ?_
  refine v_astore_n (pc := 71) (lv' := [(3, false, va_rf a6), (0, false, va_rf a0), (1, true, .long a1), (4, false, .int a4), (5, false, .int a5), (6, false, va_rf a6)]) C dX6_best_71 rfl (by decide) rfl ?_
  exact V.sub [1, 2, 0, 3, 4] rfl (vX6_best_p72 X k14 k24 hf)
def fX6_best_p78 (D : aD) (K14 : aH → (Option Nat) → Int64 → (Option Nat) → Int32 → Option (Option Nat × aH)) (h : aH) (a0 : Option Nat) (a1 : Int64) (a3 : Option Nat) (a4 : Int32) : Option (Option Nat × aH) :=
  K14 h a0 a1 a3 (a4 + 1)
theorem vX6_best_p78 {h : aH} {K14 : aH → (Option Nat) → Int64 → (Option Nat) → Int32 → Option (Option Nat × aH)} {a0 : Option Nat} {a1 : Int64} {a3 : Option Nat} {a4 : Int32} {q : Option Nat} {g : aH} (X : aX p l R s m meth c D n0 s0 yX6_best cX6_best 4 87 7 (some (.object "FigureSurvey$Shift")) h0) (k14 : ∀ (h : aH) (a0 : Option Nat) (a1 : Int64) (a3 : Option Nat) (a4 : Int32) (q : Option Nat) (g : aH), K14 h a0 a1 a3 a4 = some (q, g) → V p l e R s m args below meth c D n0 s0 (aEnd D below args s h0 (.inr (some (va_rf q)), g)) h 14 [(0, false, va_rf a0), (1, true, .long a1), (3, false, va_rf a3), (4, false, .int a4)] []) (hf : fX6_best_p78 D K14 h a0 a1 a3 a4 = some (q, g)) : V p l e R s m args below meth c D n0 s0 (aEnd D below args s h0 (.inr (some (va_rf q)), g)) h 78 [(0, false, va_rf a0), (1, true, .long a1), (3, false, va_rf a3), (4, false, .int a4)] [] := by
  have C := X.1
  unfold fX6_best_p78 at hf
  refine v_iinc (pc := 78) (j := 3) (v := (a4 + 1)) (lv' := [(4, false, .int (a4 + 1)), (0, false, va_rf a0), (1, true, .long a1), (3, false, va_rf a3)]) C dX6_best_78 rfl rfl (by decide) rfl ?_
  refine v_goto (pc := 81) (tgt := 14) C dX6_best_81 rfl ?_
  exact V.sub [1, 2, 3, 0] rfl (k14 _ _ _ _ _ _ _ hf)
def fX6_best_p24 (D : aD) (K14 : aH → (Option Nat) → Int64 → (Option Nat) → Int32 → Option (Option Nat × aH)) : Nat → aH → (Option Nat) → Int64 → (Option Nat) → Int32 → Int32 → Option (Option Nat × aH)
  | 0, _, _, _, _, _, _ => none
  | n + 1, h, a0, a1, a3, a4, a5 =>
  if (2 : Int32) < a5 then
  (fX6_best_p78 D K14 h a0 a1 a3 a4)
  else
  ((aMk D h (6, dfX7)).bind fun h1 =>
  (aIs h1 5 a0).bind fun _ =>
  (fX6_shifted D h1 a0 a5 a4).bind fun x3 =>
  (fJ21_bitCount D h1 (x3 &&& a1)).bind fun x6 =>
  (fX7_init D h1 (some h.1) a5 a4 x6).bind fun h10 =>
  if a3 = none then
  (fX6_best_p69 D K14 (fX6_best_p24 D K14 n) h10 a0 a1 a4 a5 (some h.1))
  else
  ((aIs h10 6 (some h.1)).bind fun _ =>
  (fX7_compareTo D h10 (some h.1) a3).bind fun x12 =>
  if 0 ≤ x12 then
  (fX6_best_p72 D K14 (fX6_best_p24 D K14 n) h10 a0 a1 a3 a4 a5)
  else
  (fX6_best_p69 D K14 (fX6_best_p24 D K14 n) h10 a0 a1 a4 a5 (some h.1))))
theorem vX6_best_p24 {K14 : aH → (Option Nat) → Int64 → (Option Nat) → Int32 → Option (Option Nat × aH)} (X : aX p l R s m meth c D n0 s0 yX6_best cX6_best 4 87 7 (some (.object "FigureSurvey$Shift")) h0) (k14 : ∀ (h : aH) (a0 : Option Nat) (a1 : Int64) (a3 : Option Nat) (a4 : Int32) (q : Option Nat) (g : aH), K14 h a0 a1 a3 a4 = some (q, g) → V p l e R s m args below meth c D n0 s0 (aEnd D below args s h0 (.inr (some (va_rf q)), g)) h 14 [(0, false, va_rf a0), (1, true, .long a1), (3, false, va_rf a3), (4, false, .int a4)] []) : ∀ (n : Nat) (h : aH) (a0 : Option Nat) (a1 : Int64) (a3 : Option Nat) (a4 : Int32) (a5 : Int32) (q : Option Nat) (g : aH), fX6_best_p24 D K14 n h a0 a1 a3 a4 a5 = some (q, g) → V p l e R s m args below meth c D n0 s0 (aEnd D below args s h0 (.inr (some (va_rf q)), g)) h 24 [(0, false, va_rf a0), (1, true, .long a1), (3, false, va_rf a3), (4, false, .int a4), (5, false, .int a5)] [] := by
  have C := X.1
  intro n
  induction n with
  | zero =>
    intro _ _ _ _ _ _ _ _ hf
    rw [fX6_best_p24] at hf
    cases hf
  | succ n ih =>
    intro h a0 a1 a3 a4 a5 q g hf
    rw [fX6_best_p24] at hf
    refine v_iload (pc := 24) (j := 4) C dX6_best_24 rfl ?_
    refine v_iconst (pc := 26) (v := (2 : Int32)) C dX6_best_26 rfl ?_
    refine v_icmp_gt (pc := 27) (tgt := 78) C dX6_best_27 rfl (fun hc => ?_) (fun hc => ?_)
    · rw [if_pos hc] at hf
      exact V.sub [0, 1, 2, 3] rfl (vX6_best_p78 X k14 hf)
    · rw [if_neg hc] at hf
      obtain ⟨h1, eh1, hf⟩ := oB hf
      refine v_new (pc := 30) (t := 6) (fs := dfX7) (T := TX7) (N := 3) C rfl in_X7 tyX7 tyX7_ok q547 q548 q103 dfX7_ok rfl eh1 dX6_best_30 ?_
      refine v_dup (pc := 33) C dX6_best_33 (va_rfc _) ?_
      refine v_iload (pc := 34) (j := 4) C dX6_best_34 rfl ?_
      refine v_iload (pc := 36) (j := 3) C dX6_best_36 rfl ?_
      refine v_aload_n (pc := 38) (j := 0) C dX6_best_38 rfl rfl ?_
      refine v_iload (pc := 39) (j := 4) C dX6_best_39 rfl ?_
      refine v_iload (pc := 41) (j := 3) C dX6_best_41 rfl ?_
      obtain ⟨b2, eb2, hf⟩ := oB hf
      obtain ⟨rb2, _, kb2⟩ := aIs_eq eb2
      obtain ⟨x3, ex3, hf⟩ := oB hf
      refine v_call (pc := 43) (d_V (pc := 43) C (As := [.int a5, .int a4]) (rest := [.int a4, .int a5, va_rf (some h.1), va_rf (some h.1)]) rb2 kb2 nt_5 q549 yi_X6_shifted_FigureSurvey_Tracing yk_X6_shifted rfl (by decide) (by decide) (Nat.le_trans (aw_i (aw_i (aw_r (aw_r aw_0)))) (by decide)) rfl (mX6_shifted C.st ex3) dX6_best_43) ?_
      refine v_lload_n (pc := 46) (j := 1) C dX6_best_46 rfl rfl ?_
      refine v_land (pc := 47) C dX6_best_47 ?_
      obtain ⟨x6, ex6, hf⟩ := oB hf
      refine v_call (pc := 48) (d_S (pc := 48) C (As := [.long (x3 &&& a1)]) (rest := [.int a4, .int a5, va_rf (some h.1), va_rf (some h.1)]) q557 q558 yk_J21_bitCount rfl (by decide) (by decide) (Nat.le_trans (aw_i (aw_i (aw_r (aw_r aw_0)))) (by decide)) rfl (mJ21_bitCount C.st ex6) dX6_best_48) ?_
      obtain ⟨h10, ex9, hf⟩ := oB hf
      refine v_callU (pc := 51) (d_I (pc := 51) C (As := [.int a5, .int a4, .int x6]) (rest := [va_rf (some h.1)]) rfl rfl rfl q563 q564 yk_X7_init rfl (by decide) (by decide) (Nat.le_trans (aw_r aw_0) (by decide)) rfl (mX7_init C.st ex9) dX6_best_51) ?_
      refine v_astore (pc := 54) (lv' := [(6, false, va_rf (some h.1)), (0, false, va_rf a0), (1, true, .long a1), (3, false, va_rf a3), (4, false, .int a4), (5, false, .int a5)]) C dX6_best_54 (by decide) rfl ?_
      refine v_aload_n (pc := 56) (j := 3) C dX6_best_56 rfl rfl ?_
      refine v_ifnull (pc := 57) (tgt := 69) C dX6_best_57 rfl (fun hc => ?_) (fun hc => ?_)
      · rw [if_pos hc] at hf
        exact V.sub [1, 2, 4, 5, 0] rfl (vX6_best_p69 X k14 ih hf)
      · rw [if_neg hc] at hf
        refine v_aload (pc := 60) (j := 0) C dX6_best_60 rfl ?_
        refine v_aload_n (pc := 62) (j := 3) C dX6_best_62 rfl rfl ?_
        obtain ⟨b11, eb11, hf⟩ := oB hf
        obtain ⟨rb11, _, kb11⟩ := aIs_eq eb11
        obtain ⟨x12, ex12, hf⟩ := oB hf
        refine v_call (pc := 63) (d_V (pc := 63) C (As := [va_rf a3]) (rest := []) rb11 kb11 nt_6 q582 yi_X7_compareTo_FigureSurvey_Shift yk_X7_compareTo rfl (by decide) (by decide) (Nat.le_trans aw_0 (by decide)) rfl (mX7_compareTo C.st ex12) dX6_best_63) ?_
        refine v_if_ge (pc := 66) (tgt := 72) C dX6_best_66 rfl (fun hc => ?_) (fun hc => ?_)
        · rw [if_pos hc] at hf
          exact V.sub [1, 2, 3, 4, 5] rfl (vX6_best_p72 X k14 ih hf)
        · rw [if_neg hc] at hf
          exact V.sub [1, 2, 4, 5, 0] rfl (vX6_best_p69 X k14 ih hf)
def fX6_best_p14 (D : aD) : Nat → aH → (Option Nat) → Int64 → (Option Nat) → Int32 → Option (Option Nat × aH)
  | 0, _, _, _, _, _ => none
  | n + 1, h, a0, a1, a3, a4 =>
  if (2 : Int32) < a4 then
  (some (a3, h))
  else
  (fX6_best_p24 D (fX6_best_p14 D n) FU h a0 a1 a3 a4 (-2 : Int32))
theorem vX6_best_p14 (X : aX p l R s m meth c D n0 s0 yX6_best cX6_best 4 87 7 (some (.object "FigureSurvey$Shift")) h0) : ∀ (n : Nat) (h : aH) (a0 : Option Nat) (a1 : Int64) (a3 : Option Nat) (a4 : Int32) (q : Option Nat) (g : aH), fX6_best_p14 D n h a0 a1 a3 a4 = some (q, g) → V p l e R s m args below meth c D n0 s0 (aEnd D below args s h0 (.inr (some (va_rf q)), g)) h 14 [(0, false, va_rf a0), (1, true, .long a1), (3, false, va_rf a3), (4, false, .int a4)] [] := by
  have C := X.1
  intro n
  induction n with
  | zero =>
    intro _ _ _ _ _ _ _ hf
    rw [fX6_best_p14] at hf
    cases hf
  | succ n ih =>
    intro h a0 a1 a3 a4 q g hf
    rw [fX6_best_p14] at hf
    refine v_iload (pc := 14) (j := 3) C dX6_best_14 rfl ?_
    refine v_iconst (pc := 16) (v := (2 : Int32)) C dX6_best_16 rfl ?_
    refine v_icmp_gt (pc := 17) (tgt := 84) C dX6_best_17 rfl (fun hc => ?_) (fun hc => ?_)
    · rw [if_pos hc] at hf
      refine v_aload_n (pc := 84) (j := 2) C dX6_best_84 rfl rfl ?_
      cases hf
      exact v_areturn (pc := 85) C X.2.1 X.2.2.1 X.2.2.2.1 (Or.inl ⟨_, rfl⟩) rfl dX6_best_85
    · rw [if_neg hc] at hf
      refine v_bipush (pc := 20) (v := (-2 : Int32)) C dX6_best_20 rfl ?_
      refine v_istore (pc := 22) (lv' := [(5, false, .int (-2 : Int32)), (0, false, va_rf a0), (1, true, .long a1), (3, false, va_rf a3), (4, false, .int a4)]) C dX6_best_22 (by decide) rfl ?_
      exact V.sub [1, 2, 3, 4, 0] rfl (vX6_best_p24 X ih _ _ _ _ _ _ _ _ _ hf)
def fX6_best (D : aD) (h : aH) (a0 : Option Nat) : Option (Option Nat × aH) :=
  (gR h 5 1 a0).bind fun x1 =>
  (aIs h 4 x1).bind fun _ =>
  (fX5_cells D h x1).bind fun x3 =>
  fX6_best_p14 D FU h a0 x3 none (-2 : Int32)
theorem vX6_best {h : aH} {a0 : Option Nat} {q : Option Nat} {g : aH} (X : aX p l R s m meth c D n0 s0 yX6_best cX6_best 4 87 7 (some (.object "FigureSurvey$Shift")) h0) (hf : fX6_best D h a0 = some (q, g)) : V p l e R s m args below meth c D n0 s0 (aEnd D below args s h0 (.inr (some (va_rf q)), g)) h 0 [(0, false, va_rf a0)] [] := by
  have C := X.1
  unfold fX6_best at hf
  refine v_aload_n (pc := 0) (j := 0) C dX6_best_0 rfl rfl ?_
  obtain ⟨x1, ex1, hf⟩ := oB hf
  refine v_getF (pc := 1) C lk_X6_15 (gR_eq ex1) dX6_best_1 ?_
  obtain ⟨b2, eb2, hf⟩ := oB hf
  obtain ⟨rb2, _, kb2⟩ := aIs_eq eb2
  obtain ⟨x3, ex3, hf⟩ := oB hf
  refine v_call (pc := 4) (d_V (pc := 4) C (As := []) (rest := []) rb2 kb2 nt_4 q537 yi_X5_cells_FigureSurvey_Figure yk_X5_cells rfl (by decide) (by decide) (Nat.le_trans aw_0 (by decide)) rfl (mX5_cells C.st ex3) dX6_best_4) ?_
  refine v_lstore_n (pc := 7) (lv' := [(1, true, .long x3), (0, false, va_rf a0)]) C dX6_best_7 rfl (by decide) rfl ?_
  refine v_null (pc := 8) C dX6_best_8 ?_
  refine v_astore_n (pc := 9) (lv' := [(3, false, va_rf none), (1, true, .long x3), (0, false, va_rf a0)]) C dX6_best_9 rfl (by decide) rfl ?_
  refine v_bipush (pc := 10) (v := (-2 : Int32)) C dX6_best_10 rfl ?_
  refine v_istore (pc := 12) (lv' := [(4, false, .int (-2 : Int32)), (3, false, va_rf none), (1, true, .long x3), (0, false, va_rf a0)]) C dX6_best_12 (by decide) rfl ?_
  exact V.sub [3, 2, 1, 0] rfl (vX6_best_p14 X _ _ _ _ _ _ _ _ hf)
theorem mX6_best {l : Launch} {D : aD} {h : aH} {a0 : Option Nat} {q : Option Nat} {g : aH} (hst : l.stackTraces = false) (hf : fX6_best D h a0 = some (q, g)) : aM l D yX6_best cX6_best 7 (some (.object "FigureSurvey$Shift")) 4 87 [va_rf a0] h (.inr (some (va_rf q)), g) :=
  aM.ofX [(false, va_rf a0)] rfl (ap_r ap_0) (by decide +kernel) hst (al_of (aw_r aw_0) (by decide)) fun p e s m args below meth c X => V.sub (lv' := [(0, false, va_rf a0)]) [0] rfl (vX6_best X hf)
def fX6_score (D : aD) (h : aH) (a0 : Option Nat) : Option (Int32 × aH) :=
  (aIs h 5 a0).bind fun _ =>
  bnd2 (fX6_best D h a0) fun x2 h3 =>
  (gI h3 6 2 x2).bind fun x4 =>
  (gL h3 5 2 a0).bind fun x5 =>
  (fJ21_bitCount D h3 x5).bind fun x7 =>
  (gR h3 5 1 a0).bind fun x9 =>
  (aIs h3 4 x9).bind fun _ =>
  (fX5_cells D h3 x9).bind fun x11 =>
  (fJ21_bitCount D h3 x11).bind fun x14 =>
  (ckN (x7 + x14)).bind fun _ =>
  some ((((200 : Int32) * x4) / (x7 + x14)), h3)
theorem vX6_score {h : aH} {a0 : Option Nat} {q : Int32} {g : aH} (X : aX p l R s m meth c D n0 s0 yX6_score cX6_score 5 113 1 (some .int) h0) (hf : fX6_score D h a0 = some (q, g)) : V p l e R s m args below meth c D n0 s0 (aEnd D below args s h0 (.inr (some (.int q)), g)) h 0 [(0, false, va_rf a0)] [] := by
  have C := X.1
  unfold fX6_score at hf
  refine v_sipush (pc := 0) (v := (200 : Int32)) C dX6_score_0 rfl ?_
  refine v_aload_n (pc := 3) (j := 0) C dX6_score_3 rfl rfl ?_
  obtain ⟨b1, eb1, hf⟩ := oB hf
  obtain ⟨rb1, _, kb1⟩ := aIs_eq eb1
  obtain ⟨x2, h3, ex2, hf⟩ := bnd2_eq hf
  refine v_call (pc := 4) (d_V (pc := 4) C (As := []) (rest := [.int (200 : Int32)]) rb1 kb1 nt_5 q533 yi_X6_best_FigureSurvey_Tracing yk_X6_best rfl (by decide) (by decide) (Nat.le_trans (aw_i aw_0) (by decide)) rfl (mX6_best C.st ex2) dX6_score_4) ?_
  obtain ⟨x4, ex4, hf⟩ := oB hf
  refine v_getF (pc := 7) C lk_X6_61 (gI_eq ex4) dX6_score_7 ?_
  refine v_imul (pc := 10) C dX6_score_10 ?_
  refine v_aload_n (pc := 11) (j := 0) C dX6_score_11 rfl rfl ?_
  obtain ⟨x5, ex5, hf⟩ := oB hf
  refine v_getF (pc := 12) C lk_X6_19 (gL_eq ex5) dX6_score_12 ?_
  obtain ⟨x7, ex7, hf⟩ := oB hf
  refine v_call (pc := 15) (d_S (pc := 15) C (As := [.long x5]) (rest := [.int ((200 : Int32) * x4)]) q557 q558 yk_J21_bitCount rfl (by decide) (by decide) (Nat.le_trans (aw_i aw_0) (by decide)) rfl (mJ21_bitCount C.st ex7) dX6_score_15) ?_
  refine v_aload_n (pc := 18) (j := 0) C dX6_score_18 rfl rfl ?_
  obtain ⟨x9, ex9, hf⟩ := oB hf
  refine v_getF (pc := 19) C lk_X6_15 (gR_eq ex9) dX6_score_19 ?_
  obtain ⟨b10, eb10, hf⟩ := oB hf
  obtain ⟨rb10, _, kb10⟩ := aIs_eq eb10
  obtain ⟨x11, ex11, hf⟩ := oB hf
  refine v_call (pc := 22) (d_V (pc := 22) C (As := []) (rest := [.int x7, .int ((200 : Int32) * x4)]) rb10 kb10 nt_4 q537 yi_X5_cells_FigureSurvey_Figure yk_X5_cells rfl (by decide) (by decide) (Nat.le_trans (aw_i (aw_i aw_0)) (by decide)) rfl (mX5_cells C.st ex11) dX6_score_22) ?_
  obtain ⟨x14, ex14, hf⟩ := oB hf
  refine v_call (pc := 25) (d_S (pc := 25) C (As := [.long x11]) (rest := [.int x7, .int ((200 : Int32) * x4)]) q557 q558 yk_J21_bitCount rfl (by decide) (by decide) (Nat.le_trans (aw_i (aw_i aw_0)) (by decide)) rfl (mJ21_bitCount C.st ex14) dX6_score_25) ?_
  refine v_iadd (pc := 28) C dX6_score_28 ?_
  obtain ⟨_, e16, hf⟩ := oB hf
  refine v_idiv (pc := 29) C dX6_score_29 (ckN_eq e16) ?_
  cases hf
  exact v_ireturn (pc := 30) C X.2.1 X.2.2.1 X.2.2.2.1 rfl dX6_score_30
theorem mX6_score {l : Launch} {D : aD} {h : aH} {a0 : Option Nat} {q : Int32} {g : aH} (hst : l.stackTraces = false) (hf : fX6_score D h a0 = some (q, g)) : aM l D yX6_score cX6_score 1 (some .int) 5 113 [va_rf a0] h (.inr (some (.int q)), g) :=
  aM.ofX [(false, va_rf a0)] rfl (ap_r ap_0) (by decide +kernel) hst (al_of (aw_r aw_0) (by decide)) fun p e s m args below meth c X => V.sub (lv' := [(0, false, va_rf a0)]) [0] rfl (vX6_score X hf)
def fX5_lambda_doubt_0 (D : aD) (h : aH) (a0 : Option Nat) (a1 : Int32) : Option (Int32 × aH) :=
  (gR h 4 3 a0).bind fun x1 =>
  (aIs h 15 x1).bind fun _ =>
  (fJ2_get D h x1 a1).bind fun x3 =>
  (aCast h [5] x3).bind fun _ =>
  (aIs h 5 x3).bind fun _ =>
  bnd2 (fX6_score D h x3) fun x7 h8 =>
  if x7 < (95 : Int32) then
  (some ((0 : Int32), h8))
  else
  (some ((1 : Int32), h8))
theorem vX5_lambda_doubt_0 {h : aH} {a0 : Option Nat} {a1 : Int32} {q : Int32} {g : aH} (X : aX p l R s m meth c D n0 s0 yX5_lambda_doubt_0 cX5_lambda_doubt_0 6 133 2 (some .boolean) h0) (hf : fX5_lambda_doubt_0 D h a0 a1 = some (q, g)) : V p l e R s m args below meth c D n0 s0 (aEnd D below args s h0 (.inr (some (.int q)), g)) h 0 [(0, false, va_rf a0), (1, false, .int a1)] [] := by
  have C := X.1
  unfold fX5_lambda_doubt_0 at hf
  refine v_aload_n (pc := 0) (j := 0) C dX5_lambda_doubt_0_0 rfl rfl ?_
  obtain ⟨x1, ex1, hf⟩ := oB hf
  refine v_getF (pc := 1) C lk_X5_18 (gR_eq ex1) dX5_lambda_doubt_0_1 ?_
  refine v_iload_n (pc := 4) (j := 1) C dX5_lambda_doubt_0_4 rfl rfl ?_
  obtain ⟨b2, eb2, hf⟩ := oB hf
  obtain ⟨rb2, _, kb2⟩ := aIs_eq eb2
  obtain ⟨x3, ex3, hf⟩ := oB hf
  refine v_call (pc := 5) (d_V (pc := 5) C (As := [.int a1]) (rest := []) rb2 kb2 nt_15 q527 yi_J2_get_java_util_ArrayList yk_J2_get rfl (by decide) (by decide) (Nat.le_trans aw_0 (by decide)) rfl (mJ2_get C.st ex3) dX5_lambda_doubt_0_5) ?_
  obtain ⟨_, e5, hf⟩ := oB hf
  refine v_cast (pc := 8) C q528 ct_FigureSurvey_Tracing e5 dX5_lambda_doubt_0_8 ?_
  obtain ⟨b6, eb6, hf⟩ := oB hf
  obtain ⟨rb6, _, kb6⟩ := aIs_eq eb6
  obtain ⟨x7, h8, ex7, hf⟩ := bnd2_eq hf
  refine v_call (pc := 11) (d_V (pc := 11) C (As := []) (rest := []) rb6 kb6 nt_5 q529 yi_X6_score_FigureSurvey_Tracing yk_X6_score rfl (by decide) (by decide) (Nat.le_trans aw_0 (by decide)) rfl (mX6_score C.st ex7) dX5_lambda_doubt_0_11) ?_
  refine v_bipush (pc := 14) (v := (95 : Int32)) C dX5_lambda_doubt_0_14 rfl ?_
  refine v_icmp_lt (pc := 16) (tgt := 23) C dX5_lambda_doubt_0_16 rfl (fun hc => ?_) (fun hc => ?_)
  · rw [if_pos hc] at hf
    refine v_iconst (pc := 23) (v := (0 : Int32)) C dX5_lambda_doubt_0_23 rfl ?_
    cases hf
    exact v_zreturn (pc := 24) C X.2.1 X.2.2.1 X.2.2.2.1 (by decide) rfl dX5_lambda_doubt_0_24
  · rw [if_neg hc] at hf
    refine v_iconst (pc := 19) (v := (1 : Int32)) C dX5_lambda_doubt_0_19 rfl ?_
    refine v_goto (pc := 20) (tgt := 24) C dX5_lambda_doubt_0_20 rfl ?_
    cases hf
    exact v_zreturn (pc := 24) C X.2.1 X.2.2.1 X.2.2.2.1 (by decide) rfl dX5_lambda_doubt_0_24
theorem mX5_lambda_doubt_0 {l : Launch} {D : aD} {h : aH} {a0 : Option Nat} {a1 : Int32} {q : Int32} {g : aH} (hst : l.stackTraces = false) (hf : fX5_lambda_doubt_0 D h a0 a1 = some (q, g)) : aM l D yX5_lambda_doubt_0 cX5_lambda_doubt_0 2 (some .boolean) 6 133 [va_rf a0, .int a1] h (.inr (some (.int q)), g) :=
  aM.ofX [(false, va_rf a0), (false, .int a1)] rfl (ap_r (ap_c rfl ap_0)) (by decide +kernel) hst (al_of (aw_r (aw_i aw_0)) (by decide)) fun p e s m args below meth c X => V.sub (lv' := [(0, false, va_rf a0), (1, false, .int a1)]) [0, 1] rfl (vX5_lambda_doubt_0 X hf)
def fX4_init (D : aD) (h : aH) (a0 : Option Nat) (a1 : Option Nat) (a2 : Int64) : Option (aH) :=
  (a0).bind fun _ =>
  (pF D h 3 0 a0 (va_rf a1)).bind fun h2 =>
  (pF D h2 3 1 a0 (.long a2)).bind fun h3 =>
  some h3
theorem vX4_init {h : aH} {a0 : Option Nat} {a1 : Option Nat} {a2 : Int64} {g : aH} (X : aX p l R s m meth c D n0 s0 yX4_init cX4_init 1 12 4 (none) h0) (hf : fX4_init D h a0 a1 a2 = some g) : V p l e R s m args below meth c D n0 s0 (aEnd D below args s h0 (.inr none, g)) h 0 [(0, false, va_rf a0), (1, false, va_rf a1), (2, true, .long a2)] [] := by
  have C := X.1
  unfold fX4_init at hf
  refine v_aload_n (pc := 0) (j := 0) C dX4_init_0 rfl rfl ?_
  obtain ⟨_, e1, hf⟩ := oB hf
  refine v_objInit (pc := 1) C e1 q1781 q138 q139 (by decide) (Nat.le_trans (Nat.add_le_add_right aw_0 12) (by decide)) dX4_init_1 ?_
  refine v_aload_n (pc := 4) (j := 0) C dX4_init_4 rfl rfl ?_
  refine v_aload_n (pc := 5) (j := 1) C dX4_init_5 rfl rfl ?_
  obtain ⟨h2, eh2, hf⟩ := oB hf
  refine v_putC (pc := 6) C X.2.2.2.2.2.1 lk_X4_7 rfl q1782 tyX4 tyX4_ok nmX4 (tyX4_ok 0 (by decide)) rfl ft_o eh2 dX4_init_6 ?_
  refine v_aload_n (pc := 9) (j := 0) C dX4_init_9 rfl rfl ?_
  refine v_lload_n (pc := 10) (j := 2) C dX4_init_10 rfl rfl ?_
  obtain ⟨h3, eh3, hf⟩ := oB hf
  refine v_putC (pc := 11) C X.2.2.2.2.2.1 lk_X4_13 rfl q1784 tyX4 tyX4_ok nmX4 (tyX4_ok 1 (by decide)) rfl rfl eh3 dX4_init_11 ?_
  cases hf
  exact v_return (pc := 14) C X.2.1 X.2.2.1 X.2.2.2.1 rfl dX4_init_14
theorem mX4_init {l : Launch} {D : aD} {h : aH} {a0 : Option Nat} {a1 : Option Nat} {a2 : Int64} {g : aH} (hst : l.stackTraces = false) (hf : fX4_init D h a0 a1 a2 = some g) : aM l D yX4_init cX4_init 4 (none) 1 12 [va_rf a0, va_rf a1, .long a2] h (.inr none, g) :=
  aM.ofX [(false, va_rf a0), (false, va_rf a1), (true, .long a2)] rfl (ap_r (ap_r (ap_c rfl ap_0))) (by decide +kernel) hst (al_of (aw_r (aw_r (aw_l aw_0))) (by decide)) fun p e s m args below meth c X => V.sub (lv' := [(0, false, va_rf a0), (1, false, va_rf a1), (2, true, .long a2)]) [0, 1, 2] rfl (vX4_init X hf)
def fX3_init (D : aD) (h : aH) (a0 : Option Nat) (a1 : Int32) (a2 : Int32) : Option (aH) :=
  (a0).bind fun _ =>
  (aMkA D h 100 (64 : Int32) (.int 0)).bind fun h2 =>
  (pF D h2 2 2 a0 (va_rf (some h.1))).bind fun h3 =>
  (pF D h3 2 10 a0 (.int (1000 : Int32))).bind fun h4 =>
  (pF D h4 2 11 a0 (.int (100 : Int32))).bind fun h5 =>
  (pF D h5 2 0 a0 (.int a1)).bind fun h6 =>
  (pF D h6 2 1 a0 (.int a2)).bind fun h7 =>
  some h7
theorem vX3_init {h : aH} {a0 : Option Nat} {a1 : Int32} {a2 : Int32} {g : aH} (X : aX p l R s m meth c D n0 s0 yX3_init cX3_init 1 12 3 (none) h0) (hf : fX3_init D h a0 a1 a2 = some g) : V p l e R s m args below meth c D n0 s0 (aEnd D below args s h0 (.inr none, g)) h 0 [(0, false, va_rf a0), (1, false, .int a1), (2, false, .int a2)] [] := by
  have C := X.1
  unfold fX3_init at hf
  refine v_aload_n (pc := 0) (j := 0) C dX3_init_0 rfl rfl ?_
  obtain ⟨_, e1, hf⟩ := oB hf
  refine v_objInit (pc := 1) C e1 q1619 q138 q139 (by decide) (Nat.le_trans (Nat.add_le_add_right aw_0 12) (by decide)) dX3_init_1 ?_
  refine v_aload_n (pc := 4) (j := 0) C dX3_init_4 rfl rfl ?_
  refine v_bipush (pc := 5) (v := (64 : Int32)) C dX3_init_5 rfl ?_
  obtain ⟨h2, eh2, hf⟩ := oB hf
  refine v_newarray (pc := 7) (t := 100) (v := .int 0) C q169 rfl rfl (by decide) (by decide) rfl eh2 dX3_init_7 ?_
  obtain ⟨h3, eh3, hf⟩ := oB hf
  refine v_putC (pc := 9) C X.2.2.2.2.2.1 lk_X3_9 rfl q1626 tyX3 tyX3_ok nmX3 (tyX3_ok 2 (by decide)) rfl ft_a eh3 dX3_init_9 ?_
  refine v_aload_n (pc := 12) (j := 0) C dX3_init_12 rfl rfl ?_
  refine v_sipush (pc := 13) (v := (1000 : Int32)) C dX3_init_13 rfl ?_
  obtain ⟨h4, eh4, hf⟩ := oB hf
  refine v_putF (pc := 16) C lk_X3_15 tyX3 tyX3_ok nmX3 (tyX3_ok 10 (by decide)) rfl rfl eh4 dX3_init_16 ?_
  refine v_aload_n (pc := 19) (j := 0) C dX3_init_19 rfl rfl ?_
  refine v_bipush (pc := 20) (v := (100 : Int32)) C dX3_init_20 rfl ?_
  obtain ⟨h5, eh5, hf⟩ := oB hf
  refine v_putF (pc := 22) C lk_X3_19 tyX3 tyX3_ok nmX3 (tyX3_ok 11 (by decide)) rfl rfl eh5 dX3_init_22 ?_
  refine v_aload_n (pc := 25) (j := 0) C dX3_init_25 rfl rfl ?_
  refine v_iload_n (pc := 26) (j := 1) C dX3_init_26 rfl rfl ?_
  obtain ⟨h6, eh6, hf⟩ := oB hf
  refine v_putC (pc := 27) C X.2.2.2.2.2.1 lk_X3_22 rfl q1620 tyX3 tyX3_ok nmX3 (tyX3_ok 0 (by decide)) rfl rfl eh6 dX3_init_27 ?_
  refine v_aload_n (pc := 30) (j := 0) C dX3_init_30 rfl rfl ?_
  refine v_iload_n (pc := 31) (j := 2) C dX3_init_31 rfl rfl ?_
  obtain ⟨h7, eh7, hf⟩ := oB hf
  refine v_putC (pc := 32) C X.2.2.2.2.2.1 lk_X3_25 rfl q1623 tyX3 tyX3_ok nmX3 (tyX3_ok 1 (by decide)) rfl rfl eh7 dX3_init_32 ?_
  cases hf
  exact v_return (pc := 35) C X.2.1 X.2.2.1 X.2.2.2.1 rfl dX3_init_35
theorem mX3_init {l : Launch} {D : aD} {h : aH} {a0 : Option Nat} {a1 : Int32} {a2 : Int32} {g : aH} (hst : l.stackTraces = false) (hf : fX3_init D h a0 a1 a2 = some g) : aM l D yX3_init cX3_init 3 (none) 1 12 [va_rf a0, .int a1, .int a2] h (.inr none, g) :=
  aM.ofX [(false, va_rf a0), (false, .int a1), (false, .int a2)] rfl (ap_r (ap_c rfl (ap_c rfl ap_0))) (by decide +kernel) hst (al_of (aw_r (aw_i (aw_i aw_0))) (by decide)) fun p e s m args below meth c X => V.sub (lv' := [(0, false, va_rf a0), (1, false, .int a1), (2, false, .int a2)]) [0, 1, 2] rfl (vX3_init X hf)
def fX1_has_2 (D : aD) (h : aH) (a0 : Int32) (a1 : Int32) : Option (Int32) :=
  if ((a0 >>> (a1 &&& 31)) &&& (1 : Int32)) = (1 : Int32) then
  (some (1 : Int32))
  else
  (some (0 : Int32))
theorem vX1_has_2 {h : aH} {a0 : Int32} {a1 : Int32} {q : Int32} (X : aX p l R s m meth c D n0 s0 yX1_has_2 cX1_has_2 0 0 2 (some .boolean) h0) (hf : fX1_has_2 D h a0 a1 = some q) : V p l e R s m args below meth c D n0 s0 (aEnd D below args s h0 (.inr (some (.int q)), h)) h 0 [(0, false, .int a0), (1, false, .int a1)] [] := by
  have C := X.1
  unfold fX1_has_2 at hf
  refine v_iload_n (pc := 0) (j := 0) C dX1_has_2_0 rfl rfl ?_
  refine v_iload_n (pc := 1) (j := 1) C dX1_has_2_1 rfl rfl ?_
  refine v_ishr (pc := 2) C dX1_has_2_2 ?_
  refine v_iconst (pc := 3) (v := (1 : Int32)) C dX1_has_2_3 rfl ?_
  refine v_iand (pc := 4) C dX1_has_2_4 ?_
  refine v_iconst (pc := 5) (v := (1 : Int32)) C dX1_has_2_5 rfl ?_
  refine v_icmp_ne (pc := 6) (tgt := 13) C dX1_has_2_6 rfl (fun hc => ?_) (fun hc => ?_)
  · rw [if_neg hc] at hf
    refine v_iconst (pc := 13) (v := (0 : Int32)) C dX1_has_2_13 rfl ?_
    cases hf
    exact v_zreturn (pc := 14) C X.2.1 X.2.2.1 X.2.2.2.1 (by decide) rfl dX1_has_2_14
  · rw [if_pos (Decidable.of_not_not hc)] at hf
    refine v_iconst (pc := 9) (v := (1 : Int32)) C dX1_has_2_9 rfl ?_
    refine v_goto (pc := 10) (tgt := 14) C dX1_has_2_10 rfl ?_
    cases hf
    exact v_zreturn (pc := 14) C X.2.1 X.2.2.1 X.2.2.2.1 (by decide) rfl dX1_has_2_14
theorem mX1_has_2 {l : Launch} {D : aD} {h : aH} {a0 : Int32} {a1 : Int32} {q : Int32} (hst : l.stackTraces = false) (hf : fX1_has_2 D h a0 a1 = some q) : aM l D yX1_has_2 cX1_has_2 2 (some .boolean) 0 0 [.int a0, .int a1] h (.inr (some (.int q)), h) :=
  aM.ofX [(false, .int a0), (false, .int a1)] rfl (ap_c rfl (ap_c rfl ap_0)) (by decide +kernel) hst (al_of (aw_i (aw_i aw_0)) (by decide)) fun p e s m args below meth c X => V.sub (lv' := [(0, false, .int a0), (1, false, .int a1)]) [0, 1] rfl (vX1_has_2 X hf)
def fX3_isEdge_p47 (D : aD) (h : aH) (a0 : Option Nat) (a1 : Int32) (a3 : Int32) (t0 : Int32) (t1 : Int32) : Option (Int32) :=
  (some ((t0 + t1))).bind fun x1 =>
  if a3 < 0 then
  (some (0 : Int32))
  else
  (if (8 : Int32) ≤ a3 then
  (some (0 : Int32))
  else
  (if x1 < 0 then
  (some (0 : Int32))
  else
  (if x1 < (8 : Int32) then
  ((gR h 2 2 a0).bind fun x2 =>
  (eI h x2 a1).bind fun x3 =>
  (gR h 2 2 a0).bind fun x4 =>
  (eI h x4 (((8 : Int32) * x1) + a3)).bind fun x5 =>
  (fJ11_abs D h (x3 - x5)).bind fun x7 =>
  if x7 < (3 : Int32) then
  (some (0 : Int32))
  else
  (some (1 : Int32)))
  else
  (some (0 : Int32)))))
theorem vX3_isEdge_p47 {h : aH} {a0 : Option Nat} {a1 : Int32} {a3 : Int32} {t0 : Int32} {t1 : Int32} {q : Int32} (X : aX p l R s m meth c D n0 s0 yX3_isEdge cX3_isEdge 1 20 5 (some .boolean) h0) (hf : fX3_isEdge_p47 D h a0 a1 a3 t0 t1 = some q) : V p l e R s m args below meth c D n0 s0 (aEnd D below args s h0 (.inr (some (.int q)), h)) h 47 [(0, false, va_rf a0), (1, false, .int a1), (3, false, .int a3)] [.int t1, .int t0] := by
  have C := X.1
  unfold fX3_isEdge_p47 at hf
  refine v_iadd (pc := 47) C dX3_isEdge_47 ?_
  obtain ⟨x1, ex1, hf⟩ := oB hf
  refine vst (Option.some.inj ex1) (fun z => .int z :: []) ?_
  refine v_istore (pc := 48) (lv' := [(4, false, .int x1), (0, false, va_rf a0), (1, false, .int a1), (3, false, .int a3)]) C dX3_isEdge_48 (by decide) rfl ?_
  refine v_iload_n (pc := 50) (j := 3) C dX3_isEdge_50 rfl rfl ?_
  refine v_if_lt (pc := 51) (tgt := 72) C dX3_isEdge_51 rfl (fun hc => ?_) (fun hc => ?_)
  · rw [if_pos hc] at hf
    refine v_iconst (pc := 72) (v := (0 : Int32)) C dX3_isEdge_72 rfl ?_
    cases hf
    exact v_zreturn (pc := 73) C X.2.1 X.2.2.1 X.2.2.2.1 (by decide) rfl dX3_isEdge_73
  · rw [if_neg hc] at hf
    refine v_iload_n (pc := 54) (j := 3) C dX3_isEdge_54 rfl rfl ?_
    refine v_bipush (pc := 55) (v := (8 : Int32)) C dX3_isEdge_55 rfl ?_
    refine v_icmp_ge (pc := 57) (tgt := 72) C dX3_isEdge_57 rfl (fun hc => ?_) (fun hc => ?_)
    · rw [if_pos hc] at hf
      refine v_iconst (pc := 72) (v := (0 : Int32)) C dX3_isEdge_72 rfl ?_
      cases hf
      exact v_zreturn (pc := 73) C X.2.1 X.2.2.1 X.2.2.2.1 (by decide) rfl dX3_isEdge_73
    · rw [if_neg hc] at hf
      refine v_iload (pc := 60) (j := 0) C dX3_isEdge_60 rfl ?_
      refine v_if_lt (pc := 62) (tgt := 72) C dX3_isEdge_62 rfl (fun hc => ?_) (fun hc => ?_)
      · rw [if_pos hc] at hf
        refine v_iconst (pc := 72) (v := (0 : Int32)) C dX3_isEdge_72 rfl ?_
        cases hf
        exact v_zreturn (pc := 73) C X.2.1 X.2.2.1 X.2.2.2.1 (by decide) rfl dX3_isEdge_73
      · rw [if_neg hc] at hf
        refine v_iload (pc := 65) (j := 0) C dX3_isEdge_65 rfl ?_
        refine v_bipush (pc := 67) (v := (8 : Int32)) C dX3_isEdge_67 rfl ?_
        refine v_icmp_lt (pc := 69) (tgt := 74) C dX3_isEdge_69 rfl (fun hc => ?_) (fun hc => ?_)
        · rw [if_pos hc] at hf
          refine v_aload_n (pc := 74) (j := 1) C dX3_isEdge_74 rfl rfl ?_
          obtain ⟨x2, ex2, hf⟩ := oB hf
          refine v_getF (pc := 75) C lk_X3_9 (gR_eq ex2) dX3_isEdge_75 ?_
          refine v_iload_n (pc := 78) (j := 2) C dX3_isEdge_78 rfl rfl ?_
          obtain ⟨x3, ex3, hf⟩ := oB hf
          refine v_iaload (pc := 79) C ex3 dX3_isEdge_79 ?_
          refine v_aload_n (pc := 80) (j := 1) C dX3_isEdge_80 rfl rfl ?_
          obtain ⟨x4, ex4, hf⟩ := oB hf
          refine v_getF (pc := 81) C lk_X3_9 (gR_eq ex4) dX3_isEdge_81 ?_
          refine v_bipush (pc := 84) (v := (8 : Int32)) C dX3_isEdge_84 rfl ?_
          refine v_iload (pc := 86) (j := 0) C dX3_isEdge_86 rfl ?_
          refine v_imul (pc := 88) C dX3_isEdge_88 ?_
          refine v_iload_n (pc := 89) (j := 3) C dX3_isEdge_89 rfl rfl ?_
          refine v_iadd (pc := 90) C dX3_isEdge_90 ?_
          obtain ⟨x5, ex5, hf⟩ := oB hf
          refine v_iaload (pc := 91) C ex5 dX3_isEdge_91 ?_
          refine v_isub (pc := 92) C dX3_isEdge_92 ?_
          obtain ⟨x7, ex7, hf⟩ := oB hf
          refine v_call (pc := 93) (d_S (pc := 93) C (As := [.int (x3 - x5)]) (rest := []) q1751 q592 yk_J11_abs rfl (by decide) (by decide) (Nat.le_trans aw_0 (by decide)) rfl (mJ11_abs C.st ex7) dX3_isEdge_93) ?_
          refine v_iconst (pc := 96) (v := (3 : Int32)) C dX3_isEdge_96 rfl ?_
          refine v_icmp_lt (pc := 97) (tgt := 104) C dX3_isEdge_97 rfl (fun hc => ?_) (fun hc => ?_)
          · rw [if_pos hc] at hf
            refine v_iconst (pc := 104) (v := (0 : Int32)) C dX3_isEdge_104 rfl ?_
            cases hf
            exact v_zreturn (pc := 105) C X.2.1 X.2.2.1 X.2.2.2.1 (by decide) rfl dX3_isEdge_105
          · rw [if_neg hc] at hf
            refine v_iconst (pc := 100) (v := (1 : Int32)) C dX3_isEdge_100 rfl ?_
            refine v_goto (pc := 101) (tgt := 105) C dX3_isEdge_101 rfl ?_
            cases hf
            exact v_zreturn (pc := 105) C X.2.1 X.2.2.1 X.2.2.2.1 (by decide) rfl dX3_isEdge_105
        · rw [if_neg hc] at hf
          refine v_iconst (pc := 72) (v := (0 : Int32)) C dX3_isEdge_72 rfl ?_
          cases hf
          exact v_zreturn (pc := 73) C X.2.1 X.2.2.1 X.2.2.2.1 (by decide) rfl dX3_isEdge_73
def fX3_isEdge_p23 (D : aD) (h : aH) (a0 : Option Nat) (a1 : Int32) (a2 : Int32) (t0 : Int32) (t1 : Int32) : Option (Int32) :=
  (some ((t0 + t1))).bind fun x1 =>
  fX3_isEdge_p47 D h a0 a1 x1 (a1 / (8 : Int32)) (if a2 = (2 : Int32) then (1 : Int32) else (if a2 = 0 then (-1 : Int32) else (0 : Int32)))
theorem vX3_isEdge_p23 {h : aH} {a0 : Option Nat} {a1 : Int32} {a2 : Int32} {t0 : Int32} {t1 : Int32} {q : Int32} (X : aX p l R s m meth c D n0 s0 yX3_isEdge cX3_isEdge 1 20 5 (some .boolean) h0) (hf : fX3_isEdge_p23 D h a0 a1 a2 t0 t1 = some q) : V p l e R s m args below meth c D n0 s0 (aEnd D below args s h0 (.inr (some (.int q)), h)) h 23 [(0, false, va_rf a0), (1, false, .int a1), (2, false, .int a2)] [.int t1, .int t0] := by
  have C := X.1
  unfold fX3_isEdge_p23 at hf
  refine v_iadd (pc := 23) C dX3_isEdge_23 ?_
  obtain ⟨x1, ex1, hf⟩ := oB hf
  refine vst (Option.some.inj ex1) (fun z => .int z :: []) ?_
  refine v_istore_n (pc := 24) (lv' := [(3, false, .int x1), (0, false, va_rf a0), (1, false, .int a1), (2, false, .int a2)]) C dX3_isEdge_24 rfl (by decide) rfl ?_
  refine v_iload_n (pc := 25) (j := 2) C dX3_isEdge_25 rfl rfl ?_
  refine v_bipush (pc := 26) (v := (8 : Int32)) C dX3_isEdge_26 rfl ?_
  refine v_idiv (pc := 28) C dX3_isEdge_28 (by decide) ?_
  refine v_iload_n (pc := 29) (j := 3) C dX3_isEdge_29 rfl rfl ?_
  refine v_iconst (pc := 30) (v := (2 : Int32)) C dX3_isEdge_30 rfl ?_
  refine v_icmp_ne (pc := 31) (tgt := 38) C dX3_isEdge_31 rfl (fun hc => ?_) (fun hc => ?_)
  · simp only [if_neg hc] at hf
    refine v_iload_n (pc := 38) (j := 3) C dX3_isEdge_38 rfl rfl ?_
    refine v_if_ne (pc := 39) (tgt := 46) C dX3_isEdge_39 rfl (fun hc => ?_) (fun hc => ?_)
    · simp only [if_neg hc] at hf
      refine v_iconst (pc := 46) (v := (0 : Int32)) C dX3_isEdge_46 rfl ?_
      exact V.sub [1, 2, 0] rfl (vX3_isEdge_p47 X hf)
    · simp only [if_pos (Decidable.of_not_not hc)] at hf
      refine v_iconst (pc := 42) (v := (-1 : Int32)) C dX3_isEdge_42 rfl ?_
      refine v_goto (pc := 43) (tgt := 47) C dX3_isEdge_43 rfl ?_
      exact V.sub [1, 2, 0] rfl (vX3_isEdge_p47 X hf)
  · simp only [if_pos (Decidable.of_not_not hc)] at hf
    refine v_iconst (pc := 34) (v := (1 : Int32)) C dX3_isEdge_34 rfl ?_
    refine v_goto (pc := 35) (tgt := 47) C dX3_isEdge_35 rfl ?_
    exact V.sub [1, 2, 0] rfl (vX3_isEdge_p47 X hf)
def fX3_isEdge (D : aD) (h : aH) (a0 : Option Nat) (a1 : Int32) (a2 : Int32) : Option (Int32) :=
  fX3_isEdge_p23 D h a0 a1 a2 (a1 - a1 / (8 : Int32) * (8 : Int32)) (if a2 = (1 : Int32) then (1 : Int32) else (if a2 = (3 : Int32) then (-1 : Int32) else (0 : Int32)))
theorem vX3_isEdge {h : aH} {a0 : Option Nat} {a1 : Int32} {a2 : Int32} {q : Int32} (X : aX p l R s m meth c D n0 s0 yX3_isEdge cX3_isEdge 1 20 5 (some .boolean) h0) (hf : fX3_isEdge D h a0 a1 a2 = some q) : V p l e R s m args below meth c D n0 s0 (aEnd D below args s h0 (.inr (some (.int q)), h)) h 0 [(0, false, va_rf a0), (1, false, .int a1), (2, false, .int a2)] [] := by
  have C := X.1
  unfold fX3_isEdge at hf
  refine v_iload_n (pc := 0) (j := 1) C dX3_isEdge_0 rfl rfl ?_
  refine v_bipush (pc := 1) (v := (8 : Int32)) C dX3_isEdge_1 rfl ?_
  refine v_irem (pc := 3) C dX3_isEdge_3 (by decide) ?_
  refine v_iload_n (pc := 4) (j := 2) C dX3_isEdge_4 rfl rfl ?_
  refine v_iconst (pc := 5) (v := (1 : Int32)) C dX3_isEdge_5 rfl ?_
  refine v_icmp_ne (pc := 6) (tgt := 13) C dX3_isEdge_6 rfl (fun hc => ?_) (fun hc => ?_)
  · simp only [if_neg hc] at hf
    refine v_iload_n (pc := 13) (j := 2) C dX3_isEdge_13 rfl rfl ?_
    refine v_iconst (pc := 14) (v := (3 : Int32)) C dX3_isEdge_14 rfl ?_
    refine v_icmp_ne (pc := 15) (tgt := 22) C dX3_isEdge_15 rfl (fun hc => ?_) (fun hc => ?_)
    · simp only [if_neg hc] at hf
      refine v_iconst (pc := 22) (v := (0 : Int32)) C dX3_isEdge_22 rfl ?_
      exact V.sub [0, 1, 2] rfl (vX3_isEdge_p23 X hf)
    · simp only [if_pos (Decidable.of_not_not hc)] at hf
      refine v_iconst (pc := 18) (v := (-1 : Int32)) C dX3_isEdge_18 rfl ?_
      refine v_goto (pc := 19) (tgt := 23) C dX3_isEdge_19 rfl ?_
      exact V.sub [0, 1, 2] rfl (vX3_isEdge_p23 X hf)
  · simp only [if_pos (Decidable.of_not_not hc)] at hf
    refine v_iconst (pc := 9) (v := (1 : Int32)) C dX3_isEdge_9 rfl ?_
    refine v_goto (pc := 10) (tgt := 23) C dX3_isEdge_10 rfl ?_
    exact V.sub [0, 1, 2] rfl (vX3_isEdge_p23 X hf)
theorem mX3_isEdge {l : Launch} {D : aD} {h : aH} {a0 : Option Nat} {a1 : Int32} {a2 : Int32} {q : Int32} (hst : l.stackTraces = false) (hf : fX3_isEdge D h a0 a1 a2 = some q) : aM l D yX3_isEdge cX3_isEdge 5 (some .boolean) 1 20 [va_rf a0, .int a1, .int a2] h (.inr (some (.int q)), h) :=
  aM.ofX [(false, va_rf a0), (false, .int a1), (false, .int a2)] rfl (ap_r (ap_c rfl (ap_c rfl ap_0))) (by decide +kernel) hst (al_of (aw_r (aw_i (aw_i aw_0))) (by decide)) fun p e s m args below meth c X => V.sub (lv' := [(0, false, va_rf a0), (1, false, .int a1), (2, false, .int a2)]) [0, 1, 2] rfl (vX3_isEdge X hf)
def fX3_lambda_seen_0 (D : aD) (h : aH) (a0 : Option Nat) (a1 : Int32) (a2 : Int32) : Option (Int32) :=
  (gI h 2 3 a0).bind fun x1 =>
  (fX1_has_2 D h x1 a2).bind fun x3 =>
  if x3 = 0 then
  (some (0 : Int32))
  else
  ((aIs h 2 a0).bind fun _ =>
  (fX3_isEdge D h a0 a1 a2).bind fun x6 =>
  if x6 = 0 then
  (some (0 : Int32))
  else
  (some (1 : Int32)))
theorem vX3_lambda_seen_0 {h : aH} {a0 : Option Nat} {a1 : Int32} {a2 : Int32} {q : Int32} (X : aX p l R s m meth c D n0 s0 yX3_lambda_seen_0 cX3_lambda_seen_0 2 44 3 (some .boolean) h0) (hf : fX3_lambda_seen_0 D h a0 a1 a2 = some q) : V p l e R s m args below meth c D n0 s0 (aEnd D below args s h0 (.inr (some (.int q)), h)) h 0 [(0, false, va_rf a0), (1, false, .int a1), (2, false, .int a2)] [] := by
  have C := X.1
  unfold fX3_lambda_seen_0 at hf
  refine v_aload_n (pc := 0) (j := 0) C dX3_lambda_seen_0_0 rfl rfl ?_
  obtain ⟨x1, ex1, hf⟩ := oB hf
  refine v_getF (pc := 1) C lk_X3_61 (gI_eq ex1) dX3_lambda_seen_0_1 ?_
  refine v_iload_n (pc := 4) (j := 2) C dX3_lambda_seen_0_4 rfl rfl ?_
  obtain ⟨x3, ex3, hf⟩ := oB hf
  refine v_call (pc := 5) (d_SN (pc := 5) C (As := [.int x1, .int a2]) (rest := []) q1746 q1244 yk_X1_has_2 rfl (by decide) (by decide) (Nat.le_trans aw_0 (by decide)) rfl (mX1_has_2 C.st ex3) dX3_lambda_seen_0_5) ?_
  refine v_if_eq (pc := 8) (tgt := 24) C dX3_lambda_seen_0_8 rfl (fun hc => ?_) (fun hc => ?_)
  · rw [if_pos hc] at hf
    refine v_iconst (pc := 24) (v := (0 : Int32)) C dX3_lambda_seen_0_24 rfl ?_
    cases hf
    exact v_zreturn (pc := 25) C X.2.1 X.2.2.1 X.2.2.2.1 (by decide) rfl dX3_lambda_seen_0_25
  · rw [if_neg hc] at hf
    refine v_aload_n (pc := 11) (j := 0) C dX3_lambda_seen_0_11 rfl rfl ?_
    refine v_iload_n (pc := 12) (j := 1) C dX3_lambda_seen_0_12 rfl rfl ?_
    refine v_iload_n (pc := 13) (j := 2) C dX3_lambda_seen_0_13 rfl rfl ?_
    obtain ⟨b5, eb5, hf⟩ := oB hf
    obtain ⟨rb5, _, kb5⟩ := aIs_eq eb5
    obtain ⟨x6, ex6, hf⟩ := oB hf
    refine v_call (pc := 14) (d_V (pc := 14) C (As := [.int a1, .int a2]) (rest := []) rb5 kb5 nt_2 q1747 yi_X3_isEdge_FigureSurvey_Panel yk_X3_isEdge rfl (by decide) (by decide) (Nat.le_trans aw_0 (by decide)) rfl (mX3_isEdge C.st ex6) dX3_lambda_seen_0_14) ?_
    refine v_if_eq (pc := 17) (tgt := 24) C dX3_lambda_seen_0_17 rfl (fun hc => ?_) (fun hc => ?_)
    · rw [if_pos hc] at hf
      refine v_iconst (pc := 24) (v := (0 : Int32)) C dX3_lambda_seen_0_24 rfl ?_
      cases hf
      exact v_zreturn (pc := 25) C X.2.1 X.2.2.1 X.2.2.2.1 (by decide) rfl dX3_lambda_seen_0_25
    · rw [if_neg hc] at hf
      refine v_iconst (pc := 20) (v := (1 : Int32)) C dX3_lambda_seen_0_20 rfl ?_
      refine v_goto (pc := 21) (tgt := 25) C dX3_lambda_seen_0_21 rfl ?_
      cases hf
      exact v_zreturn (pc := 25) C X.2.1 X.2.2.1 X.2.2.2.1 (by decide) rfl dX3_lambda_seen_0_25
theorem mX3_lambda_seen_0 {l : Launch} {D : aD} {h : aH} {a0 : Option Nat} {a1 : Int32} {a2 : Int32} {q : Int32} (hst : l.stackTraces = false) (hf : fX3_lambda_seen_0 D h a0 a1 a2 = some q) : aM l D yX3_lambda_seen_0 cX3_lambda_seen_0 3 (some .boolean) 2 44 [va_rf a0, .int a1, .int a2] h (.inr (some (.int q)), h) :=
  aM.ofX [(false, va_rf a0), (false, .int a1), (false, .int a2)] rfl (ap_r (ap_c rfl (ap_c rfl ap_0))) (by decide +kernel) hst (al_of (aw_r (aw_i (aw_i aw_0))) (by decide)) fun p e s m args below meth c X => V.sub (lv' := [(0, false, va_rf a0), (1, false, .int a1), (2, false, .int a2)]) [0, 1, 2] rfl (vX3_lambda_seen_0 X hf)
def fX3_decay (D : aD) (h : aH) (a0 : Option Nat) : Option (Int32) :=
  (gI h 2 6 a0).bind fun x1 =>
  (gI h 2 7 a0).bind fun x2 =>
  (gI h 2 8 a0).bind fun x3 =>
  (gI h 2 9 a0).bind fun x4 =>
  (fJ11_max D h (0 : Int32) (((((3 : Int32) * x1) + ((2 : Int32) * x2)) + x3) - x4)).bind fun x6 =>
  some x6
theorem vX3_decay {h : aH} {a0 : Option Nat} {q : Int32} (X : aX p l R s m meth c D n0 s0 yX3_decay cX3_decay 1 21 1 (some .int) h0) (hf : fX3_decay D h a0 = some q) : V p l e R s m args below meth c D n0 s0 (aEnd D below args s h0 (.inr (some (.int q)), h)) h 0 [(0, false, va_rf a0)] [] := by
  have C := X.1
  unfold fX3_decay at hf
  refine v_iconst (pc := 0) (v := (0 : Int32)) C dX3_decay_0 rfl ?_
  refine v_iconst (pc := 1) (v := (3 : Int32)) C dX3_decay_1 rfl ?_
  refine v_aload_n (pc := 2) (j := 0) C dX3_decay_2 rfl rfl ?_
  obtain ⟨x1, ex1, hf⟩ := oB hf
  refine v_getF (pc := 3) C lk_X3_28 (gI_eq ex1) dX3_decay_3 ?_
  refine v_imul (pc := 6) C dX3_decay_6 ?_
  refine v_iconst (pc := 7) (v := (2 : Int32)) C dX3_decay_7 rfl ?_
  refine v_aload_n (pc := 8) (j := 0) C dX3_decay_8 rfl rfl ?_
  obtain ⟨x2, ex2, hf⟩ := oB hf
  refine v_getF (pc := 9) C lk_X3_31 (gI_eq ex2) dX3_decay_9 ?_
  refine v_imul (pc := 12) C dX3_decay_12 ?_
  refine v_iadd (pc := 13) C dX3_decay_13 ?_
  refine v_aload_n (pc := 14) (j := 0) C dX3_decay_14 rfl rfl ?_
  obtain ⟨x3, ex3, hf⟩ := oB hf
  refine v_getF (pc := 15) C lk_X3_34 (gI_eq ex3) dX3_decay_15 ?_
  refine v_iadd (pc := 18) C dX3_decay_18 ?_
  refine v_aload_n (pc := 19) (j := 0) C dX3_decay_19 rfl rfl ?_
  obtain ⟨x4, ex4, hf⟩ := oB hf
  refine v_getF (pc := 20) C lk_X3_37 (gI_eq ex4) dX3_decay_20 ?_
  refine v_isub (pc := 23) C dX3_decay_23 ?_
  obtain ⟨x6, ex6, hf⟩ := oB hf
  refine v_call (pc := 24) (d_S (pc := 24) C (As := [.int (0 : Int32), .int (((((3 : Int32) * x1) + ((2 : Int32) * x2)) + x3) - x4)]) (rest := []) q2317 q424 yk_J11_max rfl (by decide) (by decide) (Nat.le_trans aw_0 (by decide)) rfl (mJ11_max C.st ex6) dX3_decay_24) ?_
  cases hf
  exact v_ireturn (pc := 27) C X.2.1 X.2.2.1 X.2.2.2.1 rfl dX3_decay_27
theorem mX3_decay {l : Launch} {D : aD} {h : aH} {a0 : Option Nat} {q : Int32} (hst : l.stackTraces = false) (hf : fX3_decay D h a0 = some q) : aM l D yX3_decay cX3_decay 1 (some .int) 1 21 [va_rf a0] h (.inr (some (.int q)), h) :=
  aM.ofX [(false, va_rf a0)] rfl (ap_r ap_0) (by decide +kernel) hst (al_of (aw_r aw_0) (by decide)) fun p e s m args below meth c X => V.sub (lv' := [(0, false, va_rf a0)]) [0] rfl (vX3_decay X hf)
def fX12_init (D : aD) (h : aH) (a0 : Option Nat) (a1 : Option Nat) (a2 : Int32) : Option (aH) :=
  (a0).bind fun _ =>
  (pF D h 11 0 a0 (va_rf a1)).bind fun h2 =>
  (pF D h2 11 1 a0 (.int a2)).bind fun h3 =>
  some h3
theorem vX12_init {h : aH} {a0 : Option Nat} {a1 : Option Nat} {a2 : Int32} {g : aH} (X : aX p l R s m meth c D n0 s0 yX12_init cX12_init 1 12 3 (none) h0) (hf : fX12_init D h a0 a1 a2 = some g) : V p l e R s m args below meth c D n0 s0 (aEnd D below args s h0 (.inr none, g)) h 0 [(0, false, va_rf a0), (1, false, va_rf a1), (2, false, .int a2)] [] := by
  have C := X.1
  unfold fX12_init at hf
  refine v_aload_n (pc := 0) (j := 0) C dX12_init_0 rfl rfl ?_
  obtain ⟨_, e1, hf⟩ := oB hf
  refine v_objInit (pc := 1) C e1 q2226 q138 q139 (by decide) (Nat.le_trans (Nat.add_le_add_right aw_0 12) (by decide)) dX12_init_1 ?_
  refine v_aload_n (pc := 4) (j := 0) C dX12_init_4 rfl rfl ?_
  refine v_aload_n (pc := 5) (j := 1) C dX12_init_5 rfl rfl ?_
  obtain ⟨h2, eh2, hf⟩ := oB hf
  refine v_putC (pc := 6) C X.2.2.2.2.2.1 lk_X12_7 rfl q2227 tyX12 tyX12_ok nmX12 (tyX12_ok 0 (by decide)) rfl ft_o eh2 dX12_init_6 ?_
  refine v_aload_n (pc := 9) (j := 0) C dX12_init_9 rfl rfl ?_
  refine v_iload_n (pc := 10) (j := 2) C dX12_init_10 rfl rfl ?_
  obtain ⟨h3, eh3, hf⟩ := oB hf
  refine v_putC (pc := 11) C X.2.2.2.2.2.1 lk_X12_13 rfl q2229 tyX12 tyX12_ok nmX12 (tyX12_ok 1 (by decide)) rfl rfl eh3 dX12_init_11 ?_
  cases hf
  exact v_return (pc := 14) C X.2.1 X.2.2.1 X.2.2.2.1 rfl dX12_init_14
theorem mX12_init {l : Launch} {D : aD} {h : aH} {a0 : Option Nat} {a1 : Option Nat} {a2 : Int32} {g : aH} (hst : l.stackTraces = false) (hf : fX12_init D h a0 a1 a2 = some g) : aM l D yX12_init cX12_init 3 (none) 1 12 [va_rf a0, va_rf a1, .int a2] h (.inr none, g) :=
  aM.ofX [(false, va_rf a0), (false, va_rf a1), (false, .int a2)] rfl (ap_r (ap_r (ap_c rfl ap_0))) (by decide +kernel) hst (al_of (aw_r (aw_r (aw_i aw_0))) (by decide)) fun p e s m args below meth c X => V.sub (lv' := [(0, false, va_rf a0), (1, false, va_rf a1), (2, false, .int a2)]) [0, 1, 2] rfl (vX12_init X hf)
def fJ3_init (D : aD) (h : aH) (a0 : Option Nat) : Option (Unit) :=
  (a0).bind fun _ =>
  some ()
theorem vJ3_init {h : aH} {a0 : Option Nat} {q : Unit} (X : aX p l R s m meth c D n0 s0 yJ3_init cJ3_init 1 12 1 (none) h0) (hf : fJ3_init D h a0 = some q) : V p l e R s m args below meth c D n0 s0 (aEnd D below args s h0 (.inr none, h)) h 0 [(0, false, va_rf a0)] [] := by
  have C := X.1
  unfold fJ3_init at hf
  refine v_aload_n (pc := 0) (j := 0) C dJ3_init_0 rfl rfl ?_
  obtain ⟨_, e1, hf⟩ := oB hf
  refine v_objInit (pc := 1) C e1 q178 q138 q139 (by decide) (Nat.le_trans (Nat.add_le_add_right aw_0 12) (by decide)) dJ3_init_1 ?_
  cases hf
  exact v_return (pc := 4) C X.2.1 X.2.2.1 X.2.2.2.1 rfl dJ3_init_4
theorem mJ3_init {l : Launch} {D : aD} {h : aH} {a0 : Option Nat} {q : Unit} (hst : l.stackTraces = false) (hf : fJ3_init D h a0 = some q) : aM l D yJ3_init cJ3_init 1 (none) 1 12 [va_rf a0] h (.inr none, h) :=
  aM.ofX [(false, va_rf a0)] rfl (ap_r ap_0) (by decide +kernel) hst (al_of (aw_r aw_0) (by decide)) fun p e s m args below meth c X => V.sub (lv' := [(0, false, va_rf a0)]) [0] rfl (vJ3_init X hf)
def fJ4_init (D : aD) (h : aH) (a0 : Option Nat) : Option (aH) :=
  (a0).bind fun _ =>
  (fJ3_init D h a0).bind fun _ =>
  (pF D h 16 4 a0 (.int (0 : Int32))).bind fun h4 =>
  (pF D h4 16 5 a0 (.int (0 : Int32))).bind fun h5 =>
  (pF D h5 16 2 a0 (va_rf none)).bind fun h6 =>
  some h6
theorem vJ4_init {h : aH} {a0 : Option Nat} {g : aH} (X : aX p l R s m meth c D n0 s0 yJ4_init cJ4_init 2 32 1 (none) h0) (hf : fJ4_init D h a0 = some g) : V p l e R s m args below meth c D n0 s0 (aEnd D below args s h0 (.inr none, g)) h 0 [(0, false, va_rf a0)] [] := by
  have C := X.1
  unfold fJ4_init at hf
  refine v_aload_n (pc := 0) (j := 0) C dJ4_init_0 rfl rfl ?_
  obtain ⟨_, eb1, hf⟩ := oB hf
  obtain ⟨x2, ex2, hf⟩ := oB hf
  refine v_callU (pc := 1) (d_I (pc := 1) C (As := []) (rest := []) eb1 rfl rfl q175 q176 yk_J3_init rfl (by decide) (by decide) (Nat.le_trans aw_0 (by decide)) rfl (mJ3_init C.st ex2) dJ4_init_1) ?_
  refine v_aload_n (pc := 4) (j := 0) C dJ4_init_4 rfl rfl ?_
  refine v_iconst (pc := 5) (v := (0 : Int32)) C dJ4_init_5 rfl ?_
  obtain ⟨h4, eh4, hf⟩ := oB hf
  refine v_putF (pc := 6) C lk_J4_7 tyJ4 tyJ4_ok nmJ4 (tyJ4_ok 4 (by decide)) rfl rfl eh4 dJ4_init_6 ?_
  refine v_aload_n (pc := 9) (j := 0) C dJ4_init_9 rfl rfl ?_
  refine v_iconst (pc := 10) (v := (0 : Int32)) C dJ4_init_10 rfl ?_
  obtain ⟨h5, eh5, hf⟩ := oB hf
  refine v_putF (pc := 11) C lk_J4_13 tyJ4 tyJ4_ok nmJ4 (tyJ4_ok 5 (by decide)) rfl rfl eh5 dJ4_init_11 ?_
  refine v_aload_n (pc := 14) (j := 0) C dJ4_init_14 rfl rfl ?_
  refine v_null (pc := 15) C dJ4_init_15 ?_
  obtain ⟨h6, eh6, hf⟩ := oB hf
  refine v_putC (pc := 16) C X.2.2.2.2.2.1 lk_J4_16 rfl q179 tyJ4 tyJ4_ok nmJ4 (tyJ4_ok 2 (by decide)) rfl ft_o eh6 dJ4_init_16 ?_
  cases hf
  exact v_return (pc := 19) C X.2.1 X.2.2.1 X.2.2.2.1 rfl dJ4_init_19
theorem mJ4_init {l : Launch} {D : aD} {h : aH} {a0 : Option Nat} {g : aH} (hst : l.stackTraces = false) (hf : fJ4_init D h a0 = some g) : aM l D yJ4_init cJ4_init 1 (none) 2 32 [va_rf a0] h (.inr none, g) :=
  aM.ofX [(false, va_rf a0)] rfl (ap_r ap_0) (by decide +kernel) hst (al_of (aw_r aw_0) (by decide)) fun p e s m args below meth c X => V.sub (lv' := [(0, false, va_rf a0)]) [0] rfl (vJ4_init X hf)
def fX1_init (D : aD) (h : aH) (a0 : Option Nat) : Option (aH) :=
  (a0).bind fun _ =>
  (aMkA D h 100 (256 : Int32) (.int 0)).bind fun h2 =>
  (pF D h2 0 0 a0 (va_rf (some h.1))).bind fun h3 =>
  (aMk D h3 (15, dfJ2)).bind fun h4 =>
  (fJ2_init D h4 (some h3.1)).bind fun h7 =>
  (pF D h7 0 1 a0 (va_rf (some h3.1))).bind fun h8 =>
  (aMk D h8 (15, dfJ2)).bind fun h9 =>
  (fJ2_init D h9 (some h8.1)).bind fun h12 =>
  (pF D h12 0 2 a0 (va_rf (some h8.1))).bind fun h13 =>
  (aMk D h13 (15, dfJ2)).bind fun h14 =>
  (fJ2_init D h14 (some h13.1)).bind fun h17 =>
  (pF D h17 0 3 a0 (va_rf (some h13.1))).bind fun h18 =>
  (aMk D h18 (15, dfJ2)).bind fun h19 =>
  (fJ2_init D h19 (some h18.1)).bind fun h22 =>
  (pF D h22 0 4 a0 (va_rf (some h18.1))).bind fun h23 =>
  (aMk D h23 (16, dfJ4)).bind fun h24 =>
  (fJ4_init D h24 (some h23.1)).bind fun h27 =>
  (pF D h27 0 5 a0 (va_rf (some h23.1))).bind fun h28 =>
  (aMkA D h28 100 (5 : Int32) (.int 0)).bind fun h29 =>
  (pF D h29 0 7 a0 (va_rf (some h28.1))).bind fun h30 =>
  (aMkA D h30 100 (5 : Int32) (.int 0)).bind fun h31 =>
  (sF D h31 100 (some h30.1) (0 : Int32) (.int (30000 : Int32))).bind fun h32 =>
  (sF D h32 100 (some h30.1) (1 : Int32) (.int (30000 : Int32))).bind fun h33 =>
  (sF D h33 100 (some h30.1) (2 : Int32) (.int (30000 : Int32))).bind fun h34 =>
  (sF D h34 100 (some h30.1) (3 : Int32) (.int (30000 : Int32))).bind fun h35 =>
  (sF D h35 100 (some h30.1) (4 : Int32) (.int (30000 : Int32))).bind fun h36 =>
  (pF D h36 0 8 a0 (va_rf (some h30.1))).bind fun h37 =>
  (aMk D h37 (15, dfJ2)).bind fun h38 =>
  (fJ2_init D h38 (some h37.1)).bind fun h41 =>
  (pF D h41 0 9 a0 (va_rf (some h37.1))).bind fun h42 =>
  (aMk D h42 (15, dfJ2)).bind fun h43 =>
  (fJ2_init D h43 (some h42.1)).bind fun h46 =>
  (pF D h46 0 10 a0 (va_rf (some h42.1))).bind fun h47 =>
  (aMk D h47 (15, dfJ2)).bind fun h48 =>
  (fJ2_init D h48 (some h47.1)).bind fun h51 =>
  (pF D h51 0 11 a0 (va_rf (some h47.1))).bind fun h52 =>
  (pF D h52 0 15 a0 (.int (-1 : Int32))).bind fun h53 =>
  (aMk2 D h53 104 100 (9 : Int32) (256 : Int32) (.int 0)).bind fun h54 =>
  (pF D h54 0 16 a0 (va_rf (some h53.1))).bind fun h55 =>
  some h55
theorem vX1_init {h : aH} {a0 : Option Nat} {g : aH} (X : aX p l R s m meth c D n0 s0 yX1_init cX1_init 4 72 1 (none) h0) (hf : fX1_init D h a0 = some g) : V p l e R s m args below meth c D n0 s0 (aEnd D below args s h0 (.inr none, g)) h 0 [(0, false, va_rf a0)] [] := by
  have C := X.1
  unfold fX1_init at hf
  refine v_aload_n (pc := 0) (j := 0) C dX1_init_0 rfl rfl ?_
  obtain ⟨_, e1, hf⟩ := oB hf
  refine v_objInit (pc := 1) C e1 q137 q138 q139 (by decide) (Nat.le_trans (Nat.add_le_add_right aw_0 12) (by decide)) dX1_init_1 ?_
  refine v_aload_n (pc := 4) (j := 0) C dX1_init_4 rfl rfl ?_
  refine v_sipush (pc := 5) (v := (256 : Int32)) C dX1_init_5 rfl ?_
  obtain ⟨h2, eh2, hf⟩ := oB hf
  refine v_newarray (pc := 8) (t := 100) (v := .int 0) C q169 rfl rfl (by decide) (by decide) rfl eh2 dX1_init_8 ?_
  obtain ⟨h3, eh3, hf⟩ := oB hf
  refine v_putC (pc := 10) C X.2.2.2.2.2.1 lk_X1_7 rfl q209 tyX1 tyX1_ok nmX1 (tyX1_ok 0 (by decide)) rfl ft_a eh3 dX1_init_10 ?_
  refine v_aload_n (pc := 13) (j := 0) C dX1_init_13 rfl rfl ?_
  obtain ⟨h4, eh4, hf⟩ := oB hf
  refine v_new (pc := 14) (t := 15) (fs := dfJ2) (T := TJ2) (N := 3) C rfl in_J2 tyJ2 tyJ2_ok q140 q141 q77 dfJ2_ok rfl eh4 dX1_init_14 ?_
  refine v_dup (pc := 17) C dX1_init_17 (va_rfc _) ?_
  obtain ⟨h7, ex6, hf⟩ := oB hf
  refine v_callU (pc := 18) (d_I (pc := 18) C (As := []) (rest := [va_rf (some h3.1), va_rf a0]) rfl rfl rfl q142 q143 yk_J2_init rfl (by decide) (by decide) (Nat.le_trans (aw_r (aw_r aw_0)) (by decide)) rfl (mJ2_init C.st ex6) dX1_init_18) ?_
  obtain ⟨h8, eh8, hf⟩ := oB hf
  refine v_putC (pc := 21) C X.2.2.2.2.2.1 lk_X1_49 rfl q210 tyX1 tyX1_ok nmX1 (tyX1_ok 1 (by decide)) rfl ft_o eh8 dX1_init_21 ?_
  refine v_aload_n (pc := 24) (j := 0) C dX1_init_24 rfl rfl ?_
  obtain ⟨h9, eh9, hf⟩ := oB hf
  refine v_new (pc := 25) (t := 15) (fs := dfJ2) (T := TJ2) (N := 3) C rfl in_J2 tyJ2 tyJ2_ok q140 q141 q77 dfJ2_ok rfl eh9 dX1_init_25 ?_
  refine v_dup (pc := 28) C dX1_init_28 (va_rfc _) ?_
  obtain ⟨h12, ex11, hf⟩ := oB hf
  refine v_callU (pc := 29) (d_I (pc := 29) C (As := []) (rest := [va_rf (some h8.1), va_rf a0]) rfl rfl rfl q142 q143 yk_J2_init rfl (by decide) (by decide) (Nat.le_trans (aw_r (aw_r aw_0)) (by decide)) rfl (mJ2_init C.st ex11) dX1_init_29) ?_
  obtain ⟨h13, eh13, hf⟩ := oB hf
  refine v_putC (pc := 32) C X.2.2.2.2.2.1 lk_X1_53 rfl q211 tyX1 tyX1_ok nmX1 (tyX1_ok 2 (by decide)) rfl ft_o eh13 dX1_init_32 ?_
  refine v_aload_n (pc := 35) (j := 0) C dX1_init_35 rfl rfl ?_
  obtain ⟨h14, eh14, hf⟩ := oB hf
  refine v_new (pc := 36) (t := 15) (fs := dfJ2) (T := TJ2) (N := 3) C rfl in_J2 tyJ2 tyJ2_ok q140 q141 q77 dfJ2_ok rfl eh14 dX1_init_36 ?_
  refine v_dup (pc := 39) C dX1_init_39 (va_rfc _) ?_
  obtain ⟨h17, ex16, hf⟩ := oB hf
  refine v_callU (pc := 40) (d_I (pc := 40) C (As := []) (rest := [va_rf (some h13.1), va_rf a0]) rfl rfl rfl q142 q143 yk_J2_init rfl (by decide) (by decide) (Nat.le_trans (aw_r (aw_r aw_0)) (by decide)) rfl (mJ2_init C.st ex16) dX1_init_40) ?_
  obtain ⟨h18, eh18, hf⟩ := oB hf
  refine v_putC (pc := 43) C X.2.2.2.2.2.1 lk_X1_56 rfl q213 tyX1 tyX1_ok nmX1 (tyX1_ok 3 (by decide)) rfl ft_o eh18 dX1_init_43 ?_
  refine v_aload_n (pc := 46) (j := 0) C dX1_init_46 rfl rfl ?_
  obtain ⟨h19, eh19, hf⟩ := oB hf
  refine v_new (pc := 47) (t := 15) (fs := dfJ2) (T := TJ2) (N := 3) C rfl in_J2 tyJ2 tyJ2_ok q140 q141 q77 dfJ2_ok rfl eh19 dX1_init_47 ?_
  refine v_dup (pc := 50) C dX1_init_50 (va_rfc _) ?_
  obtain ⟨h22, ex21, hf⟩ := oB hf
  refine v_callU (pc := 51) (d_I (pc := 51) C (As := []) (rest := [va_rf (some h18.1), va_rf a0]) rfl rfl rfl q142 q143 yk_J2_init rfl (by decide) (by decide) (Nat.le_trans (aw_r (aw_r aw_0)) (by decide)) rfl (mJ2_init C.st ex21) dX1_init_51) ?_
  obtain ⟨h23, eh23, hf⟩ := oB hf
  refine v_putC (pc := 54) C X.2.2.2.2.2.1 lk_X1_59 rfl q214 tyX1 tyX1_ok nmX1 (tyX1_ok 4 (by decide)) rfl ft_o eh23 dX1_init_54 ?_
  refine v_aload_n (pc := 57) (j := 0) C dX1_init_57 rfl rfl ?_
  obtain ⟨h24, eh24, hf⟩ := oB hf
  refine v_new (pc := 58) (t := 16) (fs := dfJ4) (T := TJ4) (N := 9) C rfl in_J4 tyJ4 tyJ4_ok q170 q171 q79 dfJ4_ok rfl eh24 dX1_init_58 ?_
  refine v_dup (pc := 61) C dX1_init_61 (va_rfc _) ?_
  obtain ⟨h27, ex26, hf⟩ := oB hf
  refine v_callU (pc := 62) (d_I (pc := 62) C (As := []) (rest := [va_rf (some h23.1), va_rf a0]) rfl rfl rfl q172 q173 yk_J4_init rfl (by decide) (by decide) (Nat.le_trans (aw_r (aw_r aw_0)) (by decide)) rfl (mJ4_init C.st ex26) dX1_init_62) ?_
  obtain ⟨h28, eh28, hf⟩ := oB hf
  refine v_putC (pc := 65) C X.2.2.2.2.2.1 lk_X1_65 rfl q216 tyX1 tyX1_ok nmX1 (tyX1_ok 5 (by decide)) rfl ft_o eh28 dX1_init_65 ?_
  refine v_aload_n (pc := 68) (j := 0) C dX1_init_68 rfl rfl ?_
  refine v_iconst (pc := 69) (v := (5 : Int32)) C dX1_init_69 rfl ?_
  obtain ⟨h29, eh29, hf⟩ := oB hf
  refine v_newarray (pc := 70) (t := 100) (v := .int 0) C q169 rfl rfl (by decide) (by decide) rfl eh29 dX1_init_70 ?_
  obtain ⟨h30, eh30, hf⟩ := oB hf
  refine v_putC (pc := 72) C X.2.2.2.2.2.1 lk_X1_69 rfl q220 tyX1 tyX1_ok nmX1 (tyX1_ok 7 (by decide)) rfl ft_a eh30 dX1_init_72 ?_
  refine v_aload_n (pc := 75) (j := 0) C dX1_init_75 rfl rfl ?_
  refine v_iconst (pc := 76) (v := (5 : Int32)) C dX1_init_76 rfl ?_
  obtain ⟨h31, eh31, hf⟩ := oB hf
  refine v_newarray (pc := 77) (t := 100) (v := .int 0) C q169 rfl rfl (by decide) (by decide) rfl eh31 dX1_init_77 ?_
  refine v_dup (pc := 79) C dX1_init_79 (va_rfc _) ?_
  refine v_iconst (pc := 80) (v := (0 : Int32)) C dX1_init_80 rfl ?_
  refine v_sipush (pc := 81) (v := (30000 : Int32)) C dX1_init_81 rfl ?_
  obtain ⟨h32, eh32, hf⟩ := oB hf
  refine v_iastore (pc := 84) C eh32 dX1_init_84 ?_
  refine v_dup (pc := 85) C dX1_init_85 (va_rfc _) ?_
  refine v_iconst (pc := 86) (v := (1 : Int32)) C dX1_init_86 rfl ?_
  refine v_sipush (pc := 87) (v := (30000 : Int32)) C dX1_init_87 rfl ?_
  obtain ⟨h33, eh33, hf⟩ := oB hf
  refine v_iastore (pc := 90) C eh33 dX1_init_90 ?_
  refine v_dup (pc := 91) C dX1_init_91 (va_rfc _) ?_
  refine v_iconst (pc := 92) (v := (2 : Int32)) C dX1_init_92 rfl ?_
  refine v_sipush (pc := 93) (v := (30000 : Int32)) C dX1_init_93 rfl ?_
  obtain ⟨h34, eh34, hf⟩ := oB hf
  refine v_iastore (pc := 96) C eh34 dX1_init_96 ?_
  refine v_dup (pc := 97) C dX1_init_97 (va_rfc _) ?_
  refine v_iconst (pc := 98) (v := (3 : Int32)) C dX1_init_98 rfl ?_
  refine v_sipush (pc := 99) (v := (30000 : Int32)) C dX1_init_99 rfl ?_
  obtain ⟨h35, eh35, hf⟩ := oB hf
  refine v_iastore (pc := 102) C eh35 dX1_init_102 ?_
  refine v_dup (pc := 103) C dX1_init_103 (va_rfc _) ?_
  refine v_iconst (pc := 104) (v := (4 : Int32)) C dX1_init_104 rfl ?_
  refine v_sipush (pc := 105) (v := (30000 : Int32)) C dX1_init_105 rfl ?_
  obtain ⟨h36, eh36, hf⟩ := oB hf
  refine v_iastore (pc := 108) C eh36 dX1_init_108 ?_
  obtain ⟨h37, eh37, hf⟩ := oB hf
  refine v_putC (pc := 109) C X.2.2.2.2.2.1 lk_X1_72 rfl q222 tyX1 tyX1_ok nmX1 (tyX1_ok 8 (by decide)) rfl ft_a eh37 dX1_init_109 ?_
  refine v_aload_n (pc := 112) (j := 0) C dX1_init_112 rfl rfl ?_
  obtain ⟨h38, eh38, hf⟩ := oB hf
  refine v_new (pc := 113) (t := 15) (fs := dfJ2) (T := TJ2) (N := 3) C rfl in_J2 tyJ2 tyJ2_ok q140 q141 q77 dfJ2_ok rfl eh38 dX1_init_113 ?_
  refine v_dup (pc := 116) C dX1_init_116 (va_rfc _) ?_
  obtain ⟨h41, ex40, hf⟩ := oB hf
  refine v_callU (pc := 117) (d_I (pc := 117) C (As := []) (rest := [va_rf (some h37.1), va_rf a0]) rfl rfl rfl q142 q143 yk_J2_init rfl (by decide) (by decide) (Nat.le_trans (aw_r (aw_r aw_0)) (by decide)) rfl (mJ2_init C.st ex40) dX1_init_117) ?_
  obtain ⟨h42, eh42, hf⟩ := oB hf
  refine v_putC (pc := 120) C X.2.2.2.2.2.1 lk_X1_75 rfl q223 tyX1 tyX1_ok nmX1 (tyX1_ok 9 (by decide)) rfl ft_o eh42 dX1_init_120 ?_
  refine v_aload_n (pc := 123) (j := 0) C dX1_init_123 rfl rfl ?_
  obtain ⟨h43, eh43, hf⟩ := oB hf
  refine v_new (pc := 124) (t := 15) (fs := dfJ2) (T := TJ2) (N := 3) C rfl in_J2 tyJ2 tyJ2_ok q140 q141 q77 dfJ2_ok rfl eh43 dX1_init_124 ?_
  refine v_dup (pc := 127) C dX1_init_127 (va_rfc _) ?_
  obtain ⟨h46, ex45, hf⟩ := oB hf
  refine v_callU (pc := 128) (d_I (pc := 128) C (As := []) (rest := [va_rf (some h42.1), va_rf a0]) rfl rfl rfl q142 q143 yk_J2_init rfl (by decide) (by decide) (Nat.le_trans (aw_r (aw_r aw_0)) (by decide)) rfl (mJ2_init C.st ex45) dX1_init_128) ?_
  obtain ⟨h47, eh47, hf⟩ := oB hf
  refine v_putC (pc := 131) C X.2.2.2.2.2.1 lk_X1_78 rfl q224 tyX1 tyX1_ok nmX1 (tyX1_ok 10 (by decide)) rfl ft_o eh47 dX1_init_131 ?_
  refine v_aload_n (pc := 134) (j := 0) C dX1_init_134 rfl rfl ?_
  obtain ⟨h48, eh48, hf⟩ := oB hf
  refine v_new (pc := 135) (t := 15) (fs := dfJ2) (T := TJ2) (N := 3) C rfl in_J2 tyJ2 tyJ2_ok q140 q141 q77 dfJ2_ok rfl eh48 dX1_init_135 ?_
  refine v_dup (pc := 138) C dX1_init_138 (va_rfc _) ?_
  obtain ⟨h51, ex50, hf⟩ := oB hf
  refine v_callU (pc := 139) (d_I (pc := 139) C (As := []) (rest := [va_rf (some h47.1), va_rf a0]) rfl rfl rfl q142 q143 yk_J2_init rfl (by decide) (by decide) (Nat.le_trans (aw_r (aw_r aw_0)) (by decide)) rfl (mJ2_init C.st ex50) dX1_init_139) ?_
  obtain ⟨h52, eh52, hf⟩ := oB hf
  refine v_putC (pc := 142) C X.2.2.2.2.2.1 lk_X1_81 rfl q225 tyX1 tyX1_ok nmX1 (tyX1_ok 11 (by decide)) rfl ft_o eh52 dX1_init_142 ?_
  refine v_aload_n (pc := 145) (j := 0) C dX1_init_145 rfl rfl ?_
  refine v_iconst (pc := 146) (v := (-1 : Int32)) C dX1_init_146 rfl ?_
  obtain ⟨h53, eh53, hf⟩ := oB hf
  refine v_putF (pc := 147) C lk_X1_84 tyX1 tyX1_ok nmX1 (tyX1_ok 15 (by decide)) rfl rfl eh53 dX1_init_147 ?_
  refine v_aload_n (pc := 150) (j := 0) C dX1_init_150 rfl rfl ?_
  refine v_bipush (pc := 151) (v := (9 : Int32)) C dX1_init_151 rfl ?_
  refine v_sipush (pc := 153) (v := (256 : Int32)) C dX1_init_153 rfl ?_
  obtain ⟨h54, eh54, hf⟩ := oB hf
  refine v_multi (pc := 156) (t := 104) (t' := 100) (t9 := .int) (v := .int 0) C (by decide +kernel) (by decide +kernel) rfl (by decide) rfl (by decide) q207 q208 q169 (by decide) rfl rfl rfl eh54 dX1_init_156 ?_
  obtain ⟨h55, eh55, hf⟩ := oB hf
  refine v_putC (pc := 160) C X.2.2.2.2.2.1 lk_X1_90 rfl q230 tyX1 tyX1_ok nmX1 (tyX1_ok 16 (by decide)) rfl ft_a eh55 dX1_init_160 ?_
  cases hf
  exact v_return (pc := 163) C X.2.1 X.2.2.1 X.2.2.2.1 rfl dX1_init_163
theorem mX1_init {l : Launch} {D : aD} {h : aH} {a0 : Option Nat} {g : aH} (hst : l.stackTraces = false) (hf : fX1_init D h a0 = some g) : aM l D yX1_init cX1_init 1 (none) 4 72 [va_rf a0] h (.inr none, g) :=
  aM.ofX [(false, va_rf a0)] rfl (ap_r ap_0) (by decide +kernel) hst (al_of (aw_r aw_0) (by decide)) fun p e s m args below meth c X => V.sub (lv' := [(0, false, va_rf a0)]) [0] rfl (vX1_init X hf)
def fJ38_init (D : aD) (h : aH) (a0 : Option Nat) : Option (Unit) :=
  (a0).bind fun _ =>
  (fJ0_init D h a0).bind fun _ =>
  some ()
theorem vJ38_init {h : aH} {a0 : Option Nat} {q : Unit} (X : aX p l R s m meth c D n0 s0 yJ38_init cJ38_init 2 32 1 (none) h0) (hf : fJ38_init D h a0 = some q) : V p l e R s m args below meth c D n0 s0 (aEnd D below args s h0 (.inr none, h)) h 0 [(0, false, va_rf a0)] [] := by
  have C := X.1
  unfold fJ38_init at hf
  refine v_aload_n (pc := 0) (j := 0) C dJ38_init_0 rfl rfl ?_
  obtain ⟨_, eb1, hf⟩ := oB hf
  obtain ⟨x2, ex2, hf⟩ := oB hf
  refine v_callU (pc := 1) (d_I (pc := 1) C (As := []) (rest := []) eb1 rfl rfl q291 q149 yk_J0_init rfl (by decide) (by decide) (Nat.le_trans aw_0 (by decide)) rfl (mJ0_init C.st ex2) dJ38_init_1) ?_
  cases hf
  exact v_return (pc := 4) C X.2.1 X.2.2.1 X.2.2.2.1 rfl dJ38_init_4
theorem mJ38_init {l : Launch} {D : aD} {h : aH} {a0 : Option Nat} {q : Unit} (hst : l.stackTraces = false) (hf : fJ38_init D h a0 = some q) : aM l D yJ38_init cJ38_init 1 (none) 2 32 [va_rf a0] h (.inr none, h) :=
  aM.ofX [(false, va_rf a0)] rfl (ap_r ap_0) (by decide +kernel) hst (al_of (aw_r aw_0) (by decide)) fun p e s m args below meth c X => V.sub (lv' := [(0, false, va_rf a0)]) [0] rfl (vJ38_init X hf)
def fJ39_init_2 (D : aD) (h : aH) (a0 : Option Nat) (a1 : Int32) (a2 : Option Nat) : Option (aH) :=
  (a0).bind fun _ =>
  (fJ38_init D h a0).bind fun _ =>
  if (1 : Int32) ≤ a1 then
  ((aMkA D h 103 a1 .null).bind fun h4 =>
  (pF D h4 21 0 a0 (va_rf (some h.1))).bind fun h5 =>
  (pF D h5 21 2 a0 (va_rf a2)).bind fun h6 =>
  some h6)
  else
  (none)
theorem vJ39_init_2 {h : aH} {a0 : Option Nat} {a1 : Int32} {a2 : Option Nat} {g : aH} (X : aX p l R s m meth c D n0 s0 yJ39_init_2 cJ39_init_2 3 52 3 (none) h0) (hf : fJ39_init_2 D h a0 a1 a2 = some g) : V p l e R s m args below meth c D n0 s0 (aEnd D below args s h0 (.inr none, g)) h 0 [(0, false, va_rf a0), (1, false, .int a1), (2, false, va_rf a2)] [] := by
  have C := X.1
  unfold fJ39_init_2 at hf
  refine v_aload_n (pc := 0) (j := 0) C dJ39_init_2_0 rfl rfl ?_
  obtain ⟨_, eb1, hf⟩ := oB hf
  obtain ⟨x2, ex2, hf⟩ := oB hf
  refine v_callU (pc := 1) (d_I (pc := 1) C (As := []) (rest := []) eb1 rfl rfl q288 q289 yk_J38_init rfl (by decide) (by decide) (Nat.le_trans aw_0 (by decide)) rfl (mJ38_init C.st ex2) dJ39_init_2_1) ?_
  refine v_iload_n (pc := 4) (j := 1) C dJ39_init_2_4 rfl rfl ?_
  refine v_iconst (pc := 5) (v := (1 : Int32)) C dJ39_init_2_5 rfl ?_
  refine v_icmp_ge (pc := 6) (tgt := 17) C dJ39_init_2_6 rfl (fun hc => ?_) (fun hc => ?_)
  · rw [if_pos hc] at hf
    refine v_aload_n (pc := 17) (j := 0) C dJ39_init_2_17 rfl rfl ?_
    refine v_iload_n (pc := 18) (j := 1) C dJ39_init_2_18 rfl rfl ?_
    obtain ⟨h4, eh4, hf⟩ := oB hf
    refine v_anewarray (pc := 19) (t := 103) C rfl (by decide) q357 q358 eh4 dJ39_init_2_19 ?_
    obtain ⟨h5, eh5, hf⟩ := oB hf
    refine v_putF (pc := 22) C lk_J39_17 tyJ39 tyJ39_ok nmJ39 (tyJ39_ok 0 (by decide)) rfl ft_a eh5 dJ39_init_2_22 ?_
    refine v_aload_n (pc := 25) (j := 0) C dJ39_init_2_25 rfl rfl ?_
    refine v_aload_n (pc := 26) (j := 2) C dJ39_init_2_26 rfl rfl ?_
    obtain ⟨h6, eh6, hf⟩ := oB hf
    refine v_putC (pc := 27) C X.2.2.2.2.2.1 lk_J39_21 rfl q363 tyJ39 tyJ39_ok nmJ39 (tyJ39_ok 2 (by decide)) rfl ft_o eh6 dJ39_init_2_27 ?_
    cases hf
    exact v_return (pc := 30) C X.2.1 X.2.2.1 X.2.2.2.1 rfl dJ39_init_2_30
  · rw [if_neg hc] at hf
    cases hf
theorem mJ39_init_2 {l : Launch} {D : aD} {h : aH} {a0 : Option Nat} {a1 : Int32} {a2 : Option Nat} {g : aH} (hst : l.stackTraces = false) (hf : fJ39_init_2 D h a0 a1 a2 = some g) : aM l D yJ39_init_2 cJ39_init_2 3 (none) 3 52 [va_rf a0, .int a1, va_rf a2] h (.inr none, g) :=
  aM.ofX [(false, va_rf a0), (false, .int a1), (false, va_rf a2)] rfl (ap_r (ap_c rfl (ap_r ap_0))) (by decide +kernel) hst (al_of (aw_r (aw_i (aw_r aw_0))) (by decide)) fun p e s m args below meth c X => V.sub (lv' := [(0, false, va_rf a0), (1, false, .int a1), (2, false, va_rf a2)]) [0, 1, 2] rfl (vJ39_init_2 X hf)
def fJ39_init (D : aD) (h : aH) (a0 : Option Nat) (a1 : Option Nat) : Option (aH) :=
  (a0).bind fun _ =>
  (fJ39_init_2 D h a0 (11 : Int32) a1).bind fun h3 =>
  some h3
theorem vJ39_init {h : aH} {a0 : Option Nat} {a1 : Option Nat} {g : aH} (X : aX p l R s m meth c D n0 s0 yJ39_init cJ39_init 4 74 2 (none) h0) (hf : fJ39_init D h a0 a1 = some g) : V p l e R s m args below meth c D n0 s0 (aEnd D below args s h0 (.inr none, g)) h 0 [(0, false, va_rf a0), (1, false, va_rf a1)] [] := by
  have C := X.1
  unfold fJ39_init at hf
  refine v_aload_n (pc := 0) (j := 0) C dJ39_init_0 rfl rfl ?_
  refine v_bipush (pc := 1) (v := (11 : Int32)) C dJ39_init_1 rfl ?_
  refine v_aload_n (pc := 3) (j := 1) C dJ39_init_3 rfl rfl ?_
  obtain ⟨_, eb1, hf⟩ := oB hf
  obtain ⟨h3, ex2, hf⟩ := oB hf
  refine v_callU (pc := 4) (d_I (pc := 4) C (As := [.int (11 : Int32), va_rf a1]) (rest := []) eb1 rfl rfl q285 q286 yk_J39_init_2 rfl (by decide) (by decide) (Nat.le_trans aw_0 (by decide)) rfl (mJ39_init_2 C.st ex2) dJ39_init_4) ?_
  cases hf
  exact v_return (pc := 7) C X.2.1 X.2.2.1 X.2.2.2.1 rfl dJ39_init_7
theorem mJ39_init {l : Launch} {D : aD} {h : aH} {a0 : Option Nat} {a1 : Option Nat} {g : aH} (hst : l.stackTraces = false) (hf : fJ39_init D h a0 a1 = some g) : aM l D yJ39_init cJ39_init 2 (none) 4 74 [va_rf a0, va_rf a1] h (.inr none, g) :=
  aM.ofX [(false, va_rf a0), (false, va_rf a1)] rfl (ap_r (ap_r ap_0)) (by decide +kernel) hst (al_of (aw_r (aw_r aw_0)) (by decide)) fun p e s m args below meth c X => V.sub (lv' := [(0, false, va_rf a0), (1, false, va_rf a1)]) [0, 1] rfl (vJ39_init X hf)
def fX1_isLow (D : aD) (h : aH) (a0 : Option Nat) (a1 : Option Nat) : Option (Int32) :=
  (gI h 0 15 a0).bind fun x1 =>
  if x1 = (-1 : Int32) then
  (some (0 : Int32))
  else
  ((gI h 2 1 a1).bind fun x2 =>
  (gI h 0 14 a0).bind fun x3 =>
  if x3 ≤ x2 then
  (some (0 : Int32))
  else
  (some (1 : Int32)))
theorem vX1_isLow {h : aH} {a0 : Option Nat} {a1 : Option Nat} {q : Int32} (X : aX p l R s m meth c D n0 s0 yX1_isLow cX1_isLow 0 0 2 (some .boolean) h0) (hf : fX1_isLow D h a0 a1 = some q) : V p l e R s m args below meth c D n0 s0 (aEnd D below args s h0 (.inr (some (.int q)), h)) h 0 [(0, false, va_rf a0), (1, false, va_rf a1)] [] := by
  have C := X.1
  unfold fX1_isLow at hf
  refine v_aload_n (pc := 0) (j := 0) C dX1_isLow_0 rfl rfl ?_
  obtain ⟨x1, ex1, hf⟩ := oB hf
  refine v_getF (pc := 1) C lk_X1_84 (gI_eq ex1) dX1_isLow_1 ?_
  refine v_iconst (pc := 4) (v := (-1 : Int32)) C dX1_isLow_4 rfl ?_
  refine v_icmp_eq (pc := 5) (tgt := 23) C dX1_isLow_5 rfl (fun hc => ?_) (fun hc => ?_)
  · rw [if_pos hc] at hf
    refine v_iconst (pc := 23) (v := (0 : Int32)) C dX1_isLow_23 rfl ?_
    cases hf
    exact v_zreturn (pc := 24) C X.2.1 X.2.2.1 X.2.2.2.1 (by decide) rfl dX1_isLow_24
  · rw [if_neg hc] at hf
    refine v_aload_n (pc := 8) (j := 1) C dX1_isLow_8 rfl rfl ?_
    obtain ⟨x2, ex2, hf⟩ := oB hf
    refine v_getF (pc := 9) C lk_X1_104 (gI_eq ex2) dX1_isLow_9 ?_
    refine v_aload_n (pc := 12) (j := 0) C dX1_isLow_12 rfl rfl ?_
    obtain ⟨x3, ex3, hf⟩ := oB hf
    refine v_getF (pc := 13) C lk_X1_109 (gI_eq ex3) dX1_isLow_13 ?_
    refine v_icmp_ge (pc := 16) (tgt := 23) C dX1_isLow_16 rfl (fun hc => ?_) (fun hc => ?_)
    · rw [if_pos hc] at hf
      refine v_iconst (pc := 23) (v := (0 : Int32)) C dX1_isLow_23 rfl ?_
      cases hf
      exact v_zreturn (pc := 24) C X.2.1 X.2.2.1 X.2.2.2.1 (by decide) rfl dX1_isLow_24
    · rw [if_neg hc] at hf
      refine v_iconst (pc := 19) (v := (1 : Int32)) C dX1_isLow_19 rfl ?_
      refine v_goto (pc := 20) (tgt := 24) C dX1_isLow_20 rfl ?_
      cases hf
      exact v_zreturn (pc := 24) C X.2.1 X.2.2.1 X.2.2.2.1 (by decide) rfl dX1_isLow_24
theorem mX1_isLow {l : Launch} {D : aD} {h : aH} {a0 : Option Nat} {a1 : Option Nat} {q : Int32} (hst : l.stackTraces = false) (hf : fX1_isLow D h a0 a1 = some q) : aM l D yX1_isLow cX1_isLow 2 (some .boolean) 0 0 [va_rf a0, va_rf a1] h (.inr (some (.int q)), h) :=
  aM.ofX [(false, va_rf a0), (false, va_rf a1)] rfl (ap_r (ap_r ap_0)) (by decide +kernel) hst (al_of (aw_r (aw_r aw_0)) (by decide)) fun p e s m args below meth c X => V.sub (lv' := [(0, false, va_rf a0), (1, false, va_rf a1)]) [0, 1] rfl (vX1_isLow X hf)
def fX1_isDrowned (D : aD) (h : aH) (a0 : Option Nat) (a1 : Option Nat) : Option (Int32) :=
  (aIs h 0 a0).bind fun _ =>
  (fX1_isLow D h a0 a1).bind fun x2 =>
  if x2 = 0 then
  (some (0 : Int32))
  else
  ((gI h 0 13 a0).bind fun x4 =>
  (gI h 0 15 a0).bind fun x5 =>
  if x4 < x5 then
  (some (0 : Int32))
  else
  (some (1 : Int32)))
theorem vX1_isDrowned {h : aH} {a0 : Option Nat} {a1 : Option Nat} {q : Int32} (X : aX p l R s m meth c D n0 s0 yX1_isDrowned cX1_isDrowned 1 21 2 (some .boolean) h0) (hf : fX1_isDrowned D h a0 a1 = some q) : V p l e R s m args below meth c D n0 s0 (aEnd D below args s h0 (.inr (some (.int q)), h)) h 0 [(0, false, va_rf a0), (1, false, va_rf a1)] [] := by
  have C := X.1
  unfold fX1_isDrowned at hf
  refine v_aload_n (pc := 0) (j := 0) C dX1_isDrowned_0 rfl rfl ?_
  refine v_aload_n (pc := 1) (j := 1) C dX1_isDrowned_1 rfl rfl ?_
  obtain ⟨b1, eb1, hf⟩ := oB hf
  obtain ⟨rb1, _, kb1⟩ := aIs_eq eb1
  obtain ⟨x2, ex2, hf⟩ := oB hf
  refine v_call (pc := 2) (d_V (pc := 2) C (As := [va_rf a1]) (rest := []) rb1 kb1 nt_0 q394 yi_X1_isLow_FigureSurvey yk_X1_isLow rfl (by decide) (by decide) (Nat.le_trans aw_0 (by decide)) rfl (mX1_isLow C.st ex2) dX1_isDrowned_2) ?_
  refine v_if_eq (pc := 5) (tgt := 23) C dX1_isDrowned_5 rfl (fun hc => ?_) (fun hc => ?_)
  · rw [if_pos hc] at hf
    refine v_iconst (pc := 23) (v := (0 : Int32)) C dX1_isDrowned_23 rfl ?_
    cases hf
    exact v_zreturn (pc := 24) C X.2.1 X.2.2.1 X.2.2.2.1 (by decide) rfl dX1_isDrowned_24
  · rw [if_neg hc] at hf
    refine v_aload_n (pc := 8) (j := 0) C dX1_isDrowned_8 rfl rfl ?_
    obtain ⟨x4, ex4, hf⟩ := oB hf
    refine v_getF (pc := 9) C lk_X1_116 (gI_eq ex4) dX1_isDrowned_9 ?_
    refine v_aload_n (pc := 12) (j := 0) C dX1_isDrowned_12 rfl rfl ?_
    obtain ⟨x5, ex5, hf⟩ := oB hf
    refine v_getF (pc := 13) C lk_X1_84 (gI_eq ex5) dX1_isDrowned_13 ?_
    refine v_icmp_lt (pc := 16) (tgt := 23) C dX1_isDrowned_16 rfl (fun hc => ?_) (fun hc => ?_)
    · rw [if_pos hc] at hf
      refine v_iconst (pc := 23) (v := (0 : Int32)) C dX1_isDrowned_23 rfl ?_
      cases hf
      exact v_zreturn (pc := 24) C X.2.1 X.2.2.1 X.2.2.2.1 (by decide) rfl dX1_isDrowned_24
    · rw [if_neg hc] at hf
      refine v_iconst (pc := 19) (v := (1 : Int32)) C dX1_isDrowned_19 rfl ?_
      refine v_goto (pc := 20) (tgt := 24) C dX1_isDrowned_20 rfl ?_
      cases hf
      exact v_zreturn (pc := 24) C X.2.1 X.2.2.1 X.2.2.2.1 (by decide) rfl dX1_isDrowned_24
theorem mX1_isDrowned {l : Launch} {D : aD} {h : aH} {a0 : Option Nat} {a1 : Option Nat} {q : Int32} (hst : l.stackTraces = false) (hf : fX1_isDrowned D h a0 a1 = some q) : aM l D yX1_isDrowned cX1_isDrowned 2 (some .boolean) 1 21 [va_rf a0, va_rf a1] h (.inr (some (.int q)), h) :=
  aM.ofX [(false, va_rf a0), (false, va_rf a1)] rfl (ap_r (ap_r ap_0)) (by decide +kernel) hst (al_of (aw_r (aw_r aw_0)) (by decide)) fun p e s m args below meth c X => V.sub (lv' := [(0, false, va_rf a0), (1, false, va_rf a1)]) [0, 1] rfl (vX1_isDrowned X hf)
def fJ39_grow_p25 (D : aD) (h : aH) (a0 : Option Nat) (t0 : Int32) (t1 : Int32) (t2 : Int32) : Option (aH) :=
  (fJ10_newLength D h t0 t1 t2).bind fun x2 =>
  (gR h 21 0 a0).bind fun x4 =>
  bnd2 (fJ12_copyOf D h x4 x2) fun x6 h7 =>
  (pF D h7 21 0 a0 (va_rf x6)).bind fun h8 =>
  some h8
theorem vJ39_grow_p25 {h : aH} {a0 : Option Nat} {t0 : Int32} {t1 : Int32} {t2 : Int32} {g : aH} (X : aX p l R s m meth c D n0 s0 yJ39_grow cJ39_grow 3 65 4 (none) h0) (hf : fJ39_grow_p25 D h a0 t0 t1 t2 = some g) : V p l e R s m args below meth c D n0 s0 (aEnd D below args s h0 (.inr none, g)) h 25 [(0, false, va_rf a0)] [.int t2, .int t1, .int t0] := by
  have C := X.1
  unfold fJ39_grow_p25 at hf
  obtain ⟨x2, ex2, hf⟩ := oB hf
  refine v_call (pc := 25) (d_S (pc := 25) C (As := [.int t0, .int t1, .int t2]) (rest := []) q420 q421 yk_J10_newLength rfl (by decide) (by decide) (Nat.le_trans aw_0 (by decide)) rfl (mJ10_newLength C.st ex2) dJ39_grow_25) ?_
  refine v_istore_n (pc := 28) (lv' := [(3, false, .int x2), (0, false, va_rf a0)]) C dJ39_grow_28 rfl (by decide) rfl ?_
  refine v_aload_n (pc := 29) (j := 1) C dJ39_grow_29 rfl rfl ?_
  refine v_aload_n (pc := 30) (j := 1) C dJ39_grow_30 rfl rfl ?_
  obtain ⟨x4, ex4, hf⟩ := oB hf
  refine v_getF (pc := 31) C lk_J39_17 (gR_eq ex4) dJ39_grow_31 ?_
  refine v_iload_n (pc := 34) (j := 0) C dJ39_grow_34 rfl rfl ?_
  obtain ⟨x6, h7, ex6, hf⟩ := bnd2_eq hf
  refine v_call (pc := 35) (d_S (pc := 35) C (As := [va_rf x4, .int x2]) (rest := [va_rf a0]) q430 q431 yk_J12_copyOf rfl (by decide) (by decide) (Nat.le_trans (aw_r aw_0) (by decide)) rfl (mJ12_copyOf C.st ex6) dJ39_grow_35) ?_
  obtain ⟨h8, eh8, hf⟩ := oB hf
  refine v_putF (pc := 38) C lk_J39_17 tyJ39 tyJ39_ok nmJ39 (tyJ39_ok 0 (by decide)) rfl ft_a eh8 dJ39_grow_38 ?_
  cases hf
  exact v_return (pc := 41) C X.2.1 X.2.2.1 X.2.2.2.1 rfl dJ39_grow_41
def fJ39_grow (D : aD) (h : aH) (a0 : Option Nat) (a1 : Int32) : Option (aH) :=
  (gR h 21 0 a0).bind fun x1 =>
  (eN h x1).bind fun x2 =>
  fJ39_grow_p25 D h a0 x2 (a1 - x2) (if (64 : Int32) ≤ x2 then (x2 >>> ((1 : Int32) &&& 31)) else (x2 + (2 : Int32)))
theorem vJ39_grow {h : aH} {a0 : Option Nat} {a1 : Int32} {g : aH} (X : aX p l R s m meth c D n0 s0 yJ39_grow cJ39_grow 3 65 4 (none) h0) (hf : fJ39_grow D h a0 a1 = some g) : V p l e R s m args below meth c D n0 s0 (aEnd D below args s h0 (.inr none, g)) h 0 [(0, false, va_rf a0), (1, false, .int a1)] [] := by
  have C := X.1
  unfold fJ39_grow at hf
  refine v_aload_n (pc := 0) (j := 0) C dJ39_grow_0 rfl rfl ?_
  obtain ⟨x1, ex1, hf⟩ := oB hf
  refine v_getF (pc := 1) C lk_J39_17 (gR_eq ex1) dJ39_grow_1 ?_
  obtain ⟨x2, ex2, hf⟩ := oB hf
  refine v_alen (pc := 4) C ex2 dJ39_grow_4 ?_
  refine v_istore_n (pc := 5) (lv' := [(2, false, .int x2), (0, false, va_rf a0), (1, false, .int a1)]) C dJ39_grow_5 rfl (by decide) rfl ?_
  refine v_iload_n (pc := 6) (j := 0) C dJ39_grow_6 rfl rfl ?_
  refine v_iload_n (pc := 7) (j := 2) C dJ39_grow_7 rfl rfl ?_
  refine v_iload_n (pc := 8) (j := 0) C dJ39_grow_8 rfl rfl ?_
  refine v_isub (pc := 9) C dJ39_grow_9 ?_
  refine v_iload_n (pc := 10) (j := 0) C dJ39_grow_10 rfl rfl ?_
  refine v_bipush (pc := 11) (v := (64 : Int32)) C dJ39_grow_11 rfl ?_
  refine v_icmp_ge (pc := 13) (tgt := 22) C dJ39_grow_13 rfl (fun hc => ?_) (fun hc => ?_)
  · simp only [if_pos hc] at hf
    refine v_iload_n (pc := 22) (j := 0) C dJ39_grow_22 rfl rfl ?_
    refine v_iconst (pc := 23) (v := (1 : Int32)) C dJ39_grow_23 rfl ?_
    refine v_ishr (pc := 24) C dJ39_grow_24 ?_
    exact V.sub [1] rfl (vJ39_grow_p25 X hf)
  · simp only [if_neg hc] at hf
    refine v_iload_n (pc := 16) (j := 0) C dJ39_grow_16 rfl rfl ?_
    refine v_iconst (pc := 17) (v := (2 : Int32)) C dJ39_grow_17 rfl ?_
    refine v_iadd (pc := 18) C dJ39_grow_18 ?_
    refine v_goto (pc := 19) (tgt := 25) C dJ39_grow_19 rfl ?_
    exact V.sub [1] rfl (vJ39_grow_p25 X hf)
theorem mJ39_grow {l : Launch} {D : aD} {h : aH} {a0 : Option Nat} {a1 : Int32} {g : aH} (hst : l.stackTraces = false) (hf : fJ39_grow D h a0 a1 = some g) : aM l D yJ39_grow cJ39_grow 4 (none) 3 65 [va_rf a0, .int a1] h (.inr none, g) :=
  aM.ofX [(false, va_rf a0), (false, .int a1)] rfl (ap_r (ap_c rfl ap_0)) (by decide +kernel) hst (al_of (aw_r (aw_i aw_0)) (by decide)) fun p e s m args below meth c X => V.sub (lv' := [(0, false, va_rf a0), (1, false, .int a1)]) [0, 1] rfl (vJ39_grow X hf)
def fJ19_compareTo_2 (D : aD) (h : aH) (a0 : Option Nat) (a1 : Option Nat) : Option (Int32) :=
  (gI h 22 0 a0).bind fun x1 =>
  (gI h 22 0 a1).bind fun x2 =>
  (fJ19_compare D h x1 x2).bind fun x4 =>
  some x4
theorem vJ19_compareTo_2 {h : aH} {a0 : Option Nat} {a1 : Option Nat} {q : Int32} (X : aX p l R s m meth c D n0 s0 yJ19_compareTo_2 cJ19_compareTo_2 1 21 2 (some .int) h0) (hf : fJ19_compareTo_2 D h a0 a1 = some q) : V p l e R s m args below meth c D n0 s0 (aEnd D below args s h0 (.inr (some (.int q)), h)) h 0 [(0, false, va_rf a0), (1, false, va_rf a1)] [] := by
  have C := X.1
  unfold fJ19_compareTo_2 at hf
  refine v_aload_n (pc := 0) (j := 0) C dJ19_compareTo_2_0 rfl rfl ?_
  obtain ⟨x1, ex1, hf⟩ := oB hf
  refine v_getF (pc := 1) C lk_J19_205 (gI_eq ex1) dJ19_compareTo_2_1 ?_
  refine v_aload_n (pc := 4) (j := 1) C dJ19_compareTo_2_4 rfl rfl ?_
  obtain ⟨x2, ex2, hf⟩ := oB hf
  refine v_getF (pc := 5) C lk_J19_205 (gI_eq ex2) dJ19_compareTo_2_5 ?_
  obtain ⟨x4, ex4, hf⟩ := oB hf
  refine v_call (pc := 8) (d_S (pc := 8) C (As := [.int x1, .int x2]) (rest := []) q641 q505 yk_J19_compare rfl (by decide) (by decide) (Nat.le_trans aw_0 (by decide)) rfl (mJ19_compare C.st ex4) dJ19_compareTo_2_8) ?_
  cases hf
  exact v_ireturn (pc := 11) C X.2.1 X.2.2.1 X.2.2.2.1 rfl dJ19_compareTo_2_11
theorem mJ19_compareTo_2 {l : Launch} {D : aD} {h : aH} {a0 : Option Nat} {a1 : Option Nat} {q : Int32} (hst : l.stackTraces = false) (hf : fJ19_compareTo_2 D h a0 a1 = some q) : aM l D yJ19_compareTo_2 cJ19_compareTo_2 2 (some .int) 1 21 [va_rf a0, va_rf a1] h (.inr (some (.int q)), h) :=
  aM.ofX [(false, va_rf a0), (false, va_rf a1)] rfl (ap_r (ap_r ap_0)) (by decide +kernel) hst (al_of (aw_r (aw_r aw_0)) (by decide)) fun p e s m args below meth c X => V.sub (lv' := [(0, false, va_rf a0), (1, false, va_rf a1)]) [0, 1] rfl (vJ19_compareTo_2 X hf)
def fJ19_compareTo (D : aD) (h : aH) (a0 : Option Nat) (a1 : Option Nat) : Option (Int32) :=
  (aCast h [22] a1).bind fun _ =>
  (aIs h 22 a0).bind fun _ =>
  (fJ19_compareTo_2 D h a0 a1).bind fun x3 =>
  some x3
theorem vJ19_compareTo {h : aH} {a0 : Option Nat} {a1 : Option Nat} {q : Int32} (X : aX p l R s m meth c D n0 s0 yJ19_compareTo cJ19_compareTo 2 42 2 (some .int) h0) (hf : fJ19_compareTo D h a0 a1 = some q) : V p l e R s m args below meth c D n0 s0 (aEnd D below args s h0 (.inr (some (.int q)), h)) h 0 [(0, false, va_rf a0), (1, false, va_rf a1)] [] := by
  have C := X.1
  unfold fJ19_compareTo at hf
  refine v_aload_n (pc := 0) (j := 0) C dJ19_compareTo_0 rfl rfl ?_
  refine v_aload_n (pc := 1) (j := 1) C dJ19_compareTo_1 rfl rfl ?_
  obtain ⟨_, e1, hf⟩ := oB hf
  refine v_cast (pc := 2) C q636 ct_java_lang_Integer e1 dJ19_compareTo_2 ?_
  obtain ⟨b2, eb2, hf⟩ := oB hf
  obtain ⟨rb2, _, kb2⟩ := aIs_eq eb2
  obtain ⟨x3, ex3, hf⟩ := oB hf
  refine v_call (pc := 5) (d_V (pc := 5) C (As := [va_rf a1]) (rest := []) rb2 kb2 nt_22 q637 yi_J19_compareTo_2_java_lang_Integer yk_J19_compareTo_2 rfl (by decide) (by decide) (Nat.le_trans aw_0 (by decide)) rfl (mJ19_compareTo_2 C.st ex3) dJ19_compareTo_5) ?_
  cases hf
  exact v_ireturn (pc := 8) C X.2.1 X.2.2.1 X.2.2.2.1 rfl dJ19_compareTo_8
theorem mJ19_compareTo {l : Launch} {D : aD} {h : aH} {a0 : Option Nat} {a1 : Option Nat} {q : Int32} (hst : l.stackTraces = false) (hf : fJ19_compareTo D h a0 a1 = some q) : aM l D yJ19_compareTo cJ19_compareTo 2 (some .int) 2 42 [va_rf a0, va_rf a1] h (.inr (some (.int q)), h) :=
  aM.ofX [(false, va_rf a0), (false, va_rf a1)] rfl (ap_r (ap_r ap_0)) (by decide +kernel) hst (al_of (aw_r (aw_r aw_0)) (by decide)) fun p e s m args below meth c X => V.sub (lv' := [(0, false, va_rf a0), (1, false, va_rf a1)]) [0, 1] rfl (vJ19_compareTo X hf)
def fd_Comparable_compareTo_22_10 (D : aD) (h : aH) (r : Option Nat) (b0 : Option Nat) : Option (Int32) := (aTag h r).bind fun t => if t = 22 then fJ19_compareTo D h r b0 else if t = 10 then fX11_compareTo D h r b0 else none
theorem dd_Comparable_compareTo_22_10 {own : String} {cc : ByteArray} {rf rl nL : Nat} {h : aH} {pc index count : Nat} {st rest : List Value} {r : Option Nat} {b0 : Option Nat} {q : Int32} (C : aC p l R s m meth c D n0 s0 own cc rf rl nL) (hl : Cond.methodLink own index ⟨"java/lang/Comparable", "compareTo", "(Ljava/lang/Object;)I"⟩ ∈ lw_all) (h9 : 3 ≤ rf) (h8 : 63 ≤ rl) (hw : (rest.map fun v => v.category).sum ≤ 8) (hst : [va_rf b0] ++ va_rf r :: rest = st) (hf : fd_Comparable_compareTo_22_10 D h r b0 = some q) (d : decode cc pc = .ok (.invokeinterface index count, 5)) : aD9 p l e R s m args below meth c D n0 s0 h (.inr (some (.int q)), h) pc st rest [va_rf r, va_rf b0].toArray 5 := by
  unfold fd_Comparable_compareTo_22_10 at hf
  obtain ⟨t, et, hf⟩ := oB hf
  obtain ⟨b, fs, hr, hb⟩ := aTag_eq et
  by_cases ht : t = 22
  · subst ht
    rw [if_pos rfl] at hf
    exact d_F C (As := [va_rf b0]) (rest := rest) hr hb nt_22 hl q609 ⟨q608, ⟨by decide +kernel, by decide +kernel⟩⟩ q631 q633 q634 q632 q630 (by decide +kernel) yk_J19_compareTo rfl (Nat.le_trans (by decide) h9) (Nat.le_trans (by decide) h8) hw hst (mJ19_compareTo C.st hf) d
  rw [if_neg ht] at hf
  by_cases ht : t = 10
  · subst ht
    rw [if_pos rfl] at hf
    exact d_F C (As := [va_rf b0]) (rest := rest) hr hb nt_10 hl q609 ⟨q608, ⟨by decide +kernel, by decide +kernel⟩⟩ q611 q613 q614 q612 q610 (by decide +kernel) yk_X11_compareTo rfl (Nat.le_trans (by decide) h9) (Nat.le_trans (by decide) h8) hw hst (mX11_compareTo C.st hf) d
  rw [if_neg ht] at hf
  cases hf
def fJ39_siftUpComparable_p47 (D : aD) (h : aH) (a0 : Int32) (a2 : Option Nat) (a3 : Option Nat) : Option (aH) :=
  (sR D h a2 a0 a3).bind fun h1 =>
  some h1
theorem vJ39_siftUpComparable_p47 {h : aH} {a0 : Int32} {a2 : Option Nat} {a3 : Option Nat} {g : aH} (X : aX p l R s m meth c D n0 s0 yJ39_siftUpComparable cJ39_siftUpComparable 3 63 6 (none) h0) (hf : fJ39_siftUpComparable_p47 D h a0 a2 a3 = some g) : V p l e R s m args below meth c D n0 s0 (aEnd D below args s h0 (.inr none, g)) h 47 [(0, false, .int a0), (2, false, va_rf a2), (3, false, va_rf a3)] [] := by
  have C := X.1
  unfold fJ39_siftUpComparable_p47 at hf
  refine v_aload_n (pc := 47) (j := 1) C dJ39_siftUpComparable_47 rfl rfl ?_
  refine v_iload_n (pc := 48) (j := 0) C dJ39_siftUpComparable_48 rfl rfl ?_
  refine v_aload_n (pc := 49) (j := 2) C dJ39_siftUpComparable_49 rfl rfl ?_
  obtain ⟨h1, eh1, hf⟩ := oB hf
  refine v_aastore (pc := 50) C eh1 dJ39_siftUpComparable_50 ?_
  cases hf
  exact v_return (pc := 51) C X.2.1 X.2.2.1 X.2.2.2.1 rfl dJ39_siftUpComparable_51
def fJ39_siftUpComparable_p5 (D : aD) : Nat → aH → Int32 → (Option Nat) → (Option Nat) → Option (aH)
  | 0, _, _, _, _ => none
  | n + 1, h, a0, a2, a3 =>
  if a0 ≤ 0 then
  (fJ39_siftUpComparable_p47 D h a0 a2 a3)
  else
  ((some (((a0 - (1 : Int32)).toUInt32 >>> ((1 : Int32).toUInt32 &&& Int32.toUInt32 31)).toInt32)).bind fun x1 =>
  (eR h a2 x1).bind fun x2 =>
  (fd_Comparable_compareTo_22_10 D h a3 x2).bind fun x4 =>
  if x4 < 0 then
  ((sR D h a2 a0 x2).bind fun h6 =>
  fJ39_siftUpComparable_p5 D n h6 x1 a2 a3)
  else
  (fJ39_siftUpComparable_p47 D h a0 a2 a3))
theorem vJ39_siftUpComparable_p5 (X : aX p l R s m meth c D n0 s0 yJ39_siftUpComparable cJ39_siftUpComparable 3 63 6 (none) h0) : ∀ (n : Nat) (h : aH) (a0 : Int32) (a2 : Option Nat) (a3 : Option Nat) (g : aH), fJ39_siftUpComparable_p5 D n h a0 a2 a3 = some g → V p l e R s m args below meth c D n0 s0 (aEnd D below args s h0 (.inr none, g)) h 5 [(0, false, .int a0), (2, false, va_rf a2), (3, false, va_rf a3)] [] := by
  have C := X.1
  intro n
  induction n with
  | zero =>
    intro _ _ _ _ _ hf
    rw [fJ39_siftUpComparable_p5] at hf
    cases hf
  | succ n ih =>
    intro h a0 a2 a3 g hf
    rw [fJ39_siftUpComparable_p5] at hf
    refine v_iload_n (pc := 5) (j := 0) C dJ39_siftUpComparable_5 rfl rfl ?_
    refine v_if_le (pc := 6) (tgt := 47) C dJ39_siftUpComparable_6 rfl (fun hc => ?_) (fun hc => ?_)
    · rw [if_pos hc] at hf
      exact V.sub [0, 1, 2] rfl (vJ39_siftUpComparable_p47 X hf)
    · rw [if_neg hc] at hf
      refine v_iload_n (pc := 9) (j := 0) C dJ39_siftUpComparable_9 rfl rfl ?_
      refine v_iconst (pc := 10) (v := (1 : Int32)) C dJ39_siftUpComparable_10 rfl ?_
      refine v_isub (pc := 11) C dJ39_siftUpComparable_11 ?_
      refine v_iconst (pc := 12) (v := (1 : Int32)) C dJ39_siftUpComparable_12 rfl ?_
      refine v_iushr (pc := 13) C dJ39_siftUpComparable_13 ?_
      obtain ⟨x1, ex1, hf⟩ := oB hf
      refine vst (Option.some.inj ex1) (fun z => .int z :: []) ?_
      refine v_istore (pc := 14) (lv' := [(4, false, .int x1), (0, false, .int a0), (2, false, va_rf a2), (3, false, va_rf a3)]) C dJ39_siftUpComparable_14 (by decide) rfl ?_
      refine v_aload_n (pc := 16) (j := 2) C dJ39_siftUpComparable_16 rfl rfl ?_
      refine v_iload (pc := 17) (j := 0) C dJ39_siftUpComparable_17 rfl ?_
      obtain ⟨x2, ex2, hf⟩ := oB hf
      refine v_aaload (pc := 19) C ex2 dJ39_siftUpComparable_19 ?_
      refine v_astore (pc := 20) (lv' := [(5, false, va_rf x2), (4, false, .int x1), (0, false, .int a0), (2, false, va_rf a2), (3, false, va_rf a3)]) C dJ39_siftUpComparable_20 (by decide) rfl ?_
      refine v_aload_n (pc := 22) (j := 4) C dJ39_siftUpComparable_22 rfl rfl ?_
      refine v_aload (pc := 23) (j := 0) C dJ39_siftUpComparable_23 rfl ?_
      obtain ⟨x4, ex4, hf⟩ := oB hf
      refine v_call (pc := 25) (dd_Comparable_compareTo_22_10 (pc := 25) C q607 (by decide) (by decide) (Nat.le_trans aw_0 (by decide)) rfl ex4 dJ39_siftUpComparable_25) ?_
      refine v_if_lt (pc := 30) (tgt := 36) C dJ39_siftUpComparable_30 rfl (fun hc => ?_) (fun hc => ?_)
      · rw [if_pos hc] at hf
        refine v_aload_n (pc := 36) (j := 3) C dJ39_siftUpComparable_36 rfl rfl ?_
        refine v_iload_n (pc := 37) (j := 2) C dJ39_siftUpComparable_37 rfl rfl ?_
        refine v_aload (pc := 38) (j := 0) C dJ39_siftUpComparable_38 rfl ?_
        obtain ⟨h6, eh6, hf⟩ := oB hf
        refine v_aastore (pc := 40) C eh6 dJ39_siftUpComparable_40 ?_
        refine v_iload (pc := 41) (j := 1) C dJ39_siftUpComparable_41 rfl ?_
        refine v_istore_n (pc := 43) (lv' := [(0, false, .int x1), (5, false, va_rf x2), (4, false, .int x1), (2, false, va_rf a2), (3, false, va_rf a3)]) C dJ39_siftUpComparable_43 rfl (by decide) rfl ?_
        refine v_goto (pc := 44) (tgt := 5) C dJ39_siftUpComparable_44 rfl ?_
        exact V.sub [0, 3, 4] rfl (ih _ _ _ _ _ hf)
      · rw [if_neg hc] at hf
        refine v_goto (pc := 33) (tgt := 47) C dJ39_siftUpComparable_33 rfl ?_
        exact V.sub [2, 3, 4] rfl (vJ39_siftUpComparable_p47 X hf)
def fJ39_siftUpComparable (D : aD) (h : aH) (a0 : Int32) (a1 : Option Nat) (a2 : Option Nat) : Option (aH) :=
  (aCast h [6, 10, 22] a1).bind fun _ =>
  fJ39_siftUpComparable_p5 D FU h a0 a2 a1
theorem vJ39_siftUpComparable {h : aH} {a0 : Int32} {a1 : Option Nat} {a2 : Option Nat} {g : aH} (X : aX p l R s m meth c D n0 s0 yJ39_siftUpComparable cJ39_siftUpComparable 3 63 6 (none) h0) (hf : fJ39_siftUpComparable D h a0 a1 a2 = some g) : V p l e R s m args below meth c D n0 s0 (aEnd D below args s h0 (.inr none, g)) h 0 [(0, false, .int a0), (1, false, va_rf a1), (2, false, va_rf a2)] [] := by
  have C := X.1
  unfold fJ39_siftUpComparable at hf
  refine v_aload_n (pc := 0) (j := 1) C dJ39_siftUpComparable_0 rfl rfl ?_
  obtain ⟨_, e1, hf⟩ := oB hf
  refine v_cast (pc := 1) C q605 ct_java_lang_Comparable e1 dJ39_siftUpComparable_1 ?_
  refine v_astore_n (pc := 4) (lv' := [(3, false, va_rf a1), (0, false, .int a0), (1, false, va_rf a1), (2, false, va_rf a2)]) C dJ39_siftUpComparable_4 rfl (by decide) rfl ?_
  exact V.sub [1, 3, 0] rfl (vJ39_siftUpComparable_p5 X _ _ _ _ _ _ hf)
theorem mJ39_siftUpComparable {l : Launch} {D : aD} {h : aH} {a0 : Int32} {a1 : Option Nat} {a2 : Option Nat} {g : aH} (hst : l.stackTraces = false) (hf : fJ39_siftUpComparable D h a0 a1 a2 = some g) : aM l D yJ39_siftUpComparable cJ39_siftUpComparable 6 (none) 3 63 [.int a0, va_rf a1, va_rf a2] h (.inr none, g) :=
  aM.ofX [(false, .int a0), (false, va_rf a1), (false, va_rf a2)] rfl (ap_c rfl (ap_r (ap_r ap_0))) (by decide +kernel) hst (al_of (aw_i (aw_r (aw_r aw_0))) (by decide)) fun p e s m args below meth c X => V.sub (lv' := [(0, false, .int a0), (1, false, va_rf a1), (2, false, va_rf a2)]) [0, 1, 2] rfl (vJ39_siftUpComparable X hf)
def fJ39_size (D : aD) (h : aH) (a0 : Option Nat) : Option (Int32) :=
  (gI h 21 1 a0).bind fun x1 =>
  some x1
theorem vJ39_size {h : aH} {a0 : Option Nat} {q : Int32} (X : aX p l R s m meth c D n0 s0 yJ39_size cJ39_size 0 0 1 (some .int) h0) (hf : fJ39_size D h a0 = some q) : V p l e R s m args below meth c D n0 s0 (aEnd D below args s h0 (.inr (some (.int q)), h)) h 0 [(0, false, va_rf a0)] [] := by
  have C := X.1
  unfold fJ39_size at hf
  refine v_aload_n (pc := 0) (j := 0) C dJ39_size_0 rfl rfl ?_
  obtain ⟨x1, ex1, hf⟩ := oB hf
  refine v_getF (pc := 1) C lk_J39_58 (gI_eq ex1) dJ39_size_1 ?_
  cases hf
  exact v_ireturn (pc := 4) C X.2.1 X.2.2.1 X.2.2.2.1 rfl dJ39_size_4
theorem mJ39_size {l : Launch} {D : aD} {h : aH} {a0 : Option Nat} {q : Int32} (hst : l.stackTraces = false) (hf : fJ39_size D h a0 = some q) : aM l D yJ39_size cJ39_size 1 (some .int) 0 0 [va_rf a0] h (.inr (some (.int q)), h) :=
  aM.ofX [(false, va_rf a0)] rfl (ap_r ap_0) (by decide +kernel) hst (al_of (aw_r aw_0) (by decide)) fun p e s m args below meth c X => V.sub (lv' := [(0, false, va_rf a0)]) [0] rfl (vJ39_size X hf)
def fJ35_size (D : aD) (h : aH) (a0 : Option Nat) : Option (Int32) :=
  (gR h 18 0 a0).bind fun x1 =>
  none
theorem vJ35_size {h : aH} {a0 : Option Nat} {q : Int32} (X : aX p l R s m meth c D n0 s0 yJ35_size cJ35_size 0 0 1 (some .int) h0) (hf : fJ35_size D h a0 = some q) : V p l e R s m args below meth c D n0 s0 (aEnd D below args s h0 (.inr (some (.int q)), h)) h 0 [(0, false, va_rf a0)] [] := by
  have C := X.1
  unfold fJ35_size at hf
  refine v_aload_n (pc := 0) (j := 0) C dJ35_size_0 rfl rfl ?_
  obtain ⟨x1, ex1, hf⟩ := oB hf
  refine v_getF (pc := 1) C lk_J35_7 (gR_eq ex1) dJ35_size_1 ?_
  cases hf
theorem mJ35_size {l : Launch} {D : aD} {h : aH} {a0 : Option Nat} {q : Int32} (hst : l.stackTraces = false) (hf : fJ35_size D h a0 = some q) : aM l D yJ35_size cJ35_size 1 (some .int) 0 0 [va_rf a0] h (.inr (some (.int q)), h) :=
  aM.ofX [(false, va_rf a0)] rfl (ap_r ap_0) (by decide +kernel) hst (al_of (aw_r aw_0) (by decide)) fun p e s m args below meth c X => V.sub (lv' := [(0, false, va_rf a0)]) [0] rfl (vJ35_size X hf)
def fJ4_size (D : aD) (h : aH) (a0 : Option Nat) : Option (Int32) :=
  (gI h 16 4 a0).bind fun x1 =>
  some x1
theorem vJ4_size {h : aH} {a0 : Option Nat} {q : Int32} (X : aX p l R s m meth c D n0 s0 yJ4_size cJ4_size 0 0 1 (some .int) h0) (hf : fJ4_size D h a0 = some q) : V p l e R s m args below meth c D n0 s0 (aEnd D below args s h0 (.inr (some (.int q)), h)) h 0 [(0, false, va_rf a0)] [] := by
  have C := X.1
  unfold fJ4_size at hf
  refine v_aload_n (pc := 0) (j := 0) C dJ4_size_0 rfl rfl ?_
  obtain ⟨x1, ex1, hf⟩ := oB hf
  refine v_getF (pc := 1) C lk_J4_7 (gI_eq ex1) dJ4_size_1 ?_
  cases hf
  exact v_ireturn (pc := 4) C X.2.1 X.2.2.1 X.2.2.2.1 rfl dJ4_size_4
theorem mJ4_size {l : Launch} {D : aD} {h : aH} {a0 : Option Nat} {q : Int32} (hst : l.stackTraces = false) (hf : fJ4_size D h a0 = some q) : aM l D yJ4_size cJ4_size 1 (some .int) 0 0 [va_rf a0] h (.inr (some (.int q)), h) :=
  aM.ofX [(false, va_rf a0)] rfl (ap_r ap_0) (by decide +kernel) hst (al_of (aw_r aw_0) (by decide)) fun p e s m args below meth c X => V.sub (lv' := [(0, false, va_rf a0)]) [0] rfl (vJ4_size X hf)
def fJ22_size (D : aD) (h : aH) (a0 : Option Nat) : Option (Int32) :=
  (gR h 19 0 a0).bind fun x1 =>
  (aIs h 16 x1).bind fun _ =>
  (fJ4_size D h x1).bind fun x3 =>
  some x3
theorem vJ22_size {h : aH} {a0 : Option Nat} {q : Int32} (X : aX p l R s m meth c D n0 s0 yJ22_size cJ22_size 1 20 1 (some .int) h0) (hf : fJ22_size D h a0 = some q) : V p l e R s m args below meth c D n0 s0 (aEnd D below args s h0 (.inr (some (.int q)), h)) h 0 [(0, false, va_rf a0)] [] := by
  have C := X.1
  unfold fJ22_size at hf
  refine v_aload_n (pc := 0) (j := 0) C dJ22_size_0 rfl rfl ?_
  obtain ⟨x1, ex1, hf⟩ := oB hf
  refine v_getF (pc := 1) C lk_J22_1 (gR_eq ex1) dJ22_size_1 ?_
  obtain ⟨b2, eb2, hf⟩ := oB hf
  obtain ⟨rb2, _, kb2⟩ := aIs_eq eb2
  obtain ⟨x3, ex3, hf⟩ := oB hf
  refine v_call (pc := 4) (d_V (pc := 4) C (As := []) (rest := []) rb2 kb2 nt_16 q840 yi_J4_size_java_util_TreeMap yk_J4_size rfl (by decide) (by decide) (Nat.le_trans aw_0 (by decide)) rfl (mJ4_size C.st ex3) dJ22_size_4) ?_
  cases hf
  exact v_ireturn (pc := 7) C X.2.1 X.2.2.1 X.2.2.2.1 rfl dJ22_size_7
theorem mJ22_size {l : Launch} {D : aD} {h : aH} {a0 : Option Nat} {q : Int32} (hst : l.stackTraces = false) (hf : fJ22_size D h a0 = some q) : aM l D yJ22_size cJ22_size 1 (some .int) 1 20 [va_rf a0] h (.inr (some (.int q)), h) :=
  aM.ofX [(false, va_rf a0)] rfl (ap_r ap_0) (by decide +kernel) hst (al_of (aw_r aw_0) (by decide)) fun p e s m args below meth c X => V.sub (lv' := [(0, false, va_rf a0)]) [0] rfl (vJ22_size X hf)
def fd_AbstractCollection_size_21_18_19_15 (D : aD) (h : aH) (r : Option Nat) : Option (Int32) := (aTag h r).bind fun t => if t = 21 then fJ39_size D h r else if t = 18 then fJ35_size D h r else if t = 19 then fJ22_size D h r else if t = 15 then fJ2_size D h r else none
theorem dd_AbstractCollection_size_21_18_19_15 {own : String} {cc : ByteArray} {rf rl nL : Nat} {h : aH} {pc index : Nat} {st rest : List Value} {r : Option Nat} {q : Int32} (C : aC p l R s m meth c D n0 s0 own cc rf rl nL) (hl : Cond.methodLink own index ⟨"java/util/AbstractCollection", "size", "()I"⟩ ∈ lw_all) (h9 : 2 ≤ rf) (h8 : 40 ≤ rl) (hw : (rest.map fun v => v.category).sum ≤ 8) (hst : [] ++ va_rf r :: rest = st) (hf : fd_AbstractCollection_size_21_18_19_15 D h r = some q) (d : decode cc pc = .ok (.invokevirtual index, 3)) : aD9 p l e R s m args below meth c D n0 s0 h (.inr (some (.int q)), h) pc st rest [va_rf r].toArray 3 := by
  unfold fd_AbstractCollection_size_21_18_19_15 at hf
  obtain ⟨t, et, hf⟩ := oB hf
  obtain ⟨b, fs, hr, hb⟩ := aTag_eq et
  by_cases ht : t = 21
  · subst ht
    rw [if_pos rfl] at hf
    exact d_U C (As := []) (rest := rest) hr hb nt_21 hl q815 (fun _ hT => va_Decl_of fun _ => gN q814 rfl hT) ⟨by decide +kernel, by decide +kernel⟩ q817 q818 (by decide +kernel) yk_J39_size rfl (Nat.le_trans (by decide) h9) (Nat.le_trans (by decide) h8) hw hst (mJ39_size C.st hf) d
  rw [if_neg ht] at hf
  by_cases ht : t = 18
  · subst ht
    rw [if_pos rfl] at hf
    exact d_U C (As := []) (rest := rest) hr hb nt_18 hl q815 (fun _ hT => va_Decl_of fun _ => gN q814 rfl hT) ⟨by decide +kernel, by decide +kernel⟩ q841 q842 (by decide +kernel) yk_J35_size rfl (Nat.le_trans (by decide) h9) (Nat.le_trans (by decide) h8) hw hst (mJ35_size C.st hf) d
  rw [if_neg ht] at hf
  by_cases ht : t = 19
  · subst ht
    rw [if_pos rfl] at hf
    exact d_U C (As := []) (rest := rest) hr hb nt_19 hl q815 (fun _ hT => va_Decl_of fun _ => gN q814 rfl hT) ⟨by decide +kernel, by decide +kernel⟩ q837 q838 (by decide +kernel) yk_J22_size rfl (Nat.le_trans (by decide) h9) (Nat.le_trans (by decide) h8) hw hst (mJ22_size C.st hf) d
  rw [if_neg ht] at hf
  by_cases ht : t = 15
  · subst ht
    rw [if_pos rfl] at hf
    exact d_U C (As := []) (rest := rest) hr hb nt_15 hl q815 (fun _ hT => va_Decl_of fun _ => gN q814 rfl hT) ⟨by decide +kernel, by decide +kernel⟩ q816 q376 (by decide +kernel) yk_J2_size rfl (Nat.le_trans (by decide) h9) (Nat.le_trans (by decide) h8) hw hst (mJ2_size C.st hf) d
  rw [if_neg ht] at hf
  cases hf
def fJ0_isEmpty (D : aD) (h : aH) (a0 : Option Nat) : Option (Int32) :=
  (fd_AbstractCollection_size_21_18_19_15 D h a0).bind fun x2 =>
  if x2 = 0 then
  (some (1 : Int32))
  else
  (some (0 : Int32))
theorem vJ0_isEmpty {h : aH} {a0 : Option Nat} {q : Int32} (X : aX p l R s m meth c D n0 s0 yJ0_isEmpty cJ0_isEmpty 2 40 1 (some .boolean) h0) (hf : fJ0_isEmpty D h a0 = some q) : V p l e R s m args below meth c D n0 s0 (aEnd D below args s h0 (.inr (some (.int q)), h)) h 0 [(0, false, va_rf a0)] [] := by
  have C := X.1
  unfold fJ0_isEmpty at hf
  refine v_aload_n (pc := 0) (j := 0) C dJ0_isEmpty_0 rfl rfl ?_
  obtain ⟨x2, ex2, hf⟩ := oB hf
  refine v_call (pc := 1) (dd_AbstractCollection_size_21_18_19_15 (pc := 1) C q813 (by decide) (by decide) (Nat.le_trans aw_0 (by decide)) rfl ex2 dJ0_isEmpty_1) ?_
  refine v_if_ne (pc := 4) (tgt := 11) C dJ0_isEmpty_4 rfl (fun hc => ?_) (fun hc => ?_)
  · rw [if_neg hc] at hf
    refine v_iconst (pc := 11) (v := (0 : Int32)) C dJ0_isEmpty_11 rfl ?_
    cases hf
    exact v_zreturn (pc := 12) C X.2.1 X.2.2.1 X.2.2.2.1 (by decide) rfl dJ0_isEmpty_12
  · rw [if_pos (Decidable.of_not_not hc)] at hf
    refine v_iconst (pc := 7) (v := (1 : Int32)) C dJ0_isEmpty_7 rfl ?_
    refine v_goto (pc := 8) (tgt := 12) C dJ0_isEmpty_8 rfl ?_
    cases hf
    exact v_zreturn (pc := 12) C X.2.1 X.2.2.1 X.2.2.2.1 (by decide) rfl dJ0_isEmpty_12
theorem mJ0_isEmpty {l : Launch} {D : aD} {h : aH} {a0 : Option Nat} {q : Int32} (hst : l.stackTraces = false) (hf : fJ0_isEmpty D h a0 = some q) : aM l D yJ0_isEmpty cJ0_isEmpty 1 (some .boolean) 2 40 [va_rf a0] h (.inr (some (.int q)), h) :=
  aM.ofX [(false, va_rf a0)] rfl (ap_r ap_0) (by decide +kernel) hst (al_of (aw_r aw_0) (by decide)) fun p e s m args below meth c X => V.sub (lv' := [(0, false, va_rf a0)]) [0] rfl (vJ0_isEmpty X hf)
def fJ39_siftDownComparable_p94 (D : aD) (h : aH) (a0 : Int32) (a2 : Option Nat) (a4 : Option Nat) : Option (aH) :=
  (sR D h a2 a0 a4).bind fun h1 =>
  some h1
theorem vJ39_siftDownComparable_p94 {h : aH} {a0 : Int32} {a2 : Option Nat} {a4 : Option Nat} {g : aH} (X : aX p l R s m meth c D n0 s0 yJ39_siftDownComparable cJ39_siftDownComparable 3 63 9 (none) h0) (hf : fJ39_siftDownComparable_p94 D h a0 a2 a4 = some g) : V p l e R s m args below meth c D n0 s0 (aEnd D below args s h0 (.inr none, g)) h 94 [(0, false, .int a0), (2, false, va_rf a2), (4, false, va_rf a4)] [] := by
  have C := X.1
  unfold fJ39_siftDownComparable_p94 at hf
  refine v_aload_n (pc := 94) (j := 1) C dJ39_siftDownComparable_94 rfl rfl ?_
  refine v_iload_n (pc := 95) (j := 0) C dJ39_siftDownComparable_95 rfl rfl ?_
  refine v_aload (pc := 96) (j := 2) C dJ39_siftDownComparable_96 rfl ?_
  obtain ⟨h1, eh1, hf⟩ := oB hf
  refine v_aastore (pc := 98) C eh1 dJ39_siftDownComparable_98 ?_
  cases hf
  exact v_return (pc := 99) C X.2.1 X.2.2.1 X.2.2.2.1 rfl dJ39_siftDownComparable_99
def fJ39_siftDownComparable_p68 (D : aD) (K11 : aH → Int32 → (Option Nat) → Int32 → (Option Nat) → Int32 → Option (aH)) (h : aH) (a0 : Int32) (a2 : Option Nat) (a3 : Int32) (a4 : Option Nat) (a5 : Int32) (a6 : Int32) (a7 : Option Nat) : Option (aH) :=
  (fd_Comparable_compareTo_22_10 D h a4 a7).bind fun x2 =>
  if 0 < x2 then
  ((sR D h a2 a0 a7).bind fun h4 =>
  K11 h4 a6 a2 a3 a4 a5)
  else
  (fJ39_siftDownComparable_p94 D h a0 a2 a4)
theorem vJ39_siftDownComparable_p68 {h : aH} {K11 : aH → Int32 → (Option Nat) → Int32 → (Option Nat) → Int32 → Option (aH)} {a0 : Int32} {a2 : Option Nat} {a3 : Int32} {a4 : Option Nat} {a5 : Int32} {a6 : Int32} {a7 : Option Nat} {g : aH} (X : aX p l R s m meth c D n0 s0 yJ39_siftDownComparable cJ39_siftDownComparable 3 63 9 (none) h0) (k11 : ∀ (h : aH) (a0 : Int32) (a2 : Option Nat) (a3 : Int32) (a4 : Option Nat) (a5 : Int32) (g : aH), K11 h a0 a2 a3 a4 a5 = some g → V p l e R s m args below meth c D n0 s0 (aEnd D below args s h0 (.inr none, g)) h 11 [(0, false, .int a0), (2, false, va_rf a2), (3, false, .int a3), (4, false, va_rf a4), (5, false, .int a5)] []) (hf : fJ39_siftDownComparable_p68 D K11 h a0 a2 a3 a4 a5 a6 a7 = some g) : V p l e R s m args below meth c D n0 s0 (aEnd D below args s h0 (.inr none, g)) h 68 [(0, false, .int a0), (2, false, va_rf a2), (3, false, .int a3), (4, false, va_rf a4), (5, false, .int a5), (6, false, .int a6), (7, false, va_rf a7)] [] := by
  have C := X.1
  unfold fJ39_siftDownComparable_p68 at hf
  refine v_aload (pc := 68) (j := 3) C dJ39_siftDownComparable_68 rfl ?_
  refine v_aload (pc := 70) (j := 6) C dJ39_siftDownComparable_70 rfl ?_
  obtain ⟨x2, ex2, hf⟩ := oB hf
  refine v_call (pc := 72) (dd_Comparable_compareTo_22_10 (pc := 72) C q607 (by decide) (by decide) (Nat.le_trans aw_0 (by decide)) rfl ex2 dJ39_siftDownComparable_72) ?_
  refine v_if_gt (pc := 77) (tgt := 83) C dJ39_siftDownComparable_77 rfl (fun hc => ?_) (fun hc => ?_)
  · rw [if_pos hc] at hf
    refine v_aload_n (pc := 83) (j := 1) C dJ39_siftDownComparable_83 rfl rfl ?_
    refine v_iload_n (pc := 84) (j := 0) C dJ39_siftDownComparable_84 rfl rfl ?_
    refine v_aload (pc := 85) (j := 6) C dJ39_siftDownComparable_85 rfl ?_
    obtain ⟨h4, eh4, hf⟩ := oB hf
    refine v_aastore (pc := 87) C eh4 dJ39_siftDownComparable_87 ?_
    refine v_iload (pc := 88) (j := 5) C dJ39_siftDownComparable_88 rfl ?_
    refine v_istore_n (pc := 90) (lv' := [(0, false, .int a6), (2, false, va_rf a2), (3, false, .int a3), (4, false, va_rf a4), (5, false, .int a5), (6, false, .int a6), (7, false, va_rf a7)]) C dJ39_siftDownComparable_90 rfl (by decide) rfl ?_
    refine v_goto (pc := 91) (tgt := 11) C dJ39_siftDownComparable_91 rfl ?_
    exact V.sub [0, 1, 2, 3, 4] rfl (k11 _ _ _ _ _ _ _ hf)
  · rw [if_neg hc] at hf
    refine v_goto (pc := 80) (tgt := 94) C dJ39_siftDownComparable_80 rfl ?_
    exact V.sub [0, 1, 3] rfl (vJ39_siftDownComparable_p94 X hf)
def fJ39_siftDownComparable_p11 (D : aD) : Nat → aH → Int32 → (Option Nat) → Int32 → (Option Nat) → Int32 → Option (aH)
  | 0, _, _, _, _, _, _ => none
  | n + 1, h, a0, a2, a3, a4, a5 =>
  if a5 ≤ a0 then
  (fJ39_siftDownComparable_p94 D h a0 a2 a4)
  else
  ((some (((a0 <<< ((1 : Int32) &&& 31)) + (1 : Int32)))).bind fun x1 =>
  (eR h a2 x1).bind fun x2 =>
  (some ((x1 + (1 : Int32)))).bind fun x3 =>
  if a3 ≤ x3 then
  (fJ39_siftDownComparable_p68 D (fJ39_siftDownComparable_p11 D n) h a0 a2 a3 a4 a5 x1 x2)
  else
  ((aCast h [6, 10, 22] x2).bind fun _ =>
  (eR h a2 x3).bind fun x5 =>
  (fd_Comparable_compareTo_22_10 D h x2 x5).bind fun x7 =>
  if x7 ≤ 0 then
  (fJ39_siftDownComparable_p68 D (fJ39_siftDownComparable_p11 D n) h a0 a2 a3 a4 a5 x1 x2)
  else
  ((eR h a2 x3).bind fun x9 =>
  fJ39_siftDownComparable_p68 D (fJ39_siftDownComparable_p11 D n) h a0 a2 a3 a4 a5 x3 x9)))
theorem vJ39_siftDownComparable_p11 (X : aX p l R s m meth c D n0 s0 yJ39_siftDownComparable cJ39_siftDownComparable 3 63 9 (none) h0) : ∀ (n : Nat) (h : aH) (a0 : Int32) (a2 : Option Nat) (a3 : Int32) (a4 : Option Nat) (a5 : Int32) (g : aH), fJ39_siftDownComparable_p11 D n h a0 a2 a3 a4 a5 = some g → V p l e R s m args below meth c D n0 s0 (aEnd D below args s h0 (.inr none, g)) h 11 [(0, false, .int a0), (2, false, va_rf a2), (3, false, .int a3), (4, false, va_rf a4), (5, false, .int a5)] [] := by
  have C := X.1
  intro n
  induction n with
  | zero =>
    intro _ _ _ _ _ _ _ hf
    rw [fJ39_siftDownComparable_p11] at hf
    cases hf
  | succ n ih =>
    intro h a0 a2 a3 a4 a5 g hf
    rw [fJ39_siftDownComparable_p11] at hf
    refine v_iload_n (pc := 11) (j := 0) C dJ39_siftDownComparable_11 rfl rfl ?_
    refine v_iload (pc := 12) (j := 4) C dJ39_siftDownComparable_12 rfl ?_
    refine v_icmp_ge (pc := 14) (tgt := 94) C dJ39_siftDownComparable_14 rfl (fun hc => ?_) (fun hc => ?_)
    · rw [if_pos hc] at hf
      exact V.sub [0, 1, 3] rfl (vJ39_siftDownComparable_p94 X hf)
    · rw [if_neg hc] at hf
      refine v_iload_n (pc := 17) (j := 0) C dJ39_siftDownComparable_17 rfl rfl ?_
      refine v_iconst (pc := 18) (v := (1 : Int32)) C dJ39_siftDownComparable_18 rfl ?_
      refine v_ishl (pc := 19) C dJ39_siftDownComparable_19 ?_
      refine v_iconst (pc := 20) (v := (1 : Int32)) C dJ39_siftDownComparable_20 rfl ?_
      refine v_iadd (pc := 21) C dJ39_siftDownComparable_21 ?_
      obtain ⟨x1, ex1, hf⟩ := oB hf
      refine vst (Option.some.inj ex1) (fun z => .int z :: []) ?_
      refine v_istore (pc := 22) (lv' := [(6, false, .int x1), (0, false, .int a0), (2, false, va_rf a2), (3, false, .int a3), (4, false, va_rf a4), (5, false, .int a5)]) C dJ39_siftDownComparable_22 (by decide) rfl ?_
      refine v_aload_n (pc := 24) (j := 2) C dJ39_siftDownComparable_24 rfl rfl ?_
      refine v_iload (pc := 25) (j := 0) C dJ39_siftDownComparable_25 rfl ?_
      obtain ⟨x2, ex2, hf⟩ := oB hf
      refine v_aaload (pc := 27) C ex2 dJ39_siftDownComparable_27 ?_
      refine v_astore (pc := 28) (lv' := [(7, false, va_rf x2), (6, false, .int x1), (0, false, .int a0), (2, false, va_rf a2), (3, false, .int a3), (4, false, va_rf a4), (5, false, .int a5)]) C dJ39_siftDownComparable_28 (by decide) rfl ?_
      refine v_iload (pc := 30) (j := 1) C dJ39_siftDownComparable_30 rfl ?_
      refine v_iconst (pc := 32) (v := (1 : Int32)) C dJ39_siftDownComparable_32 rfl ?_
      refine v_iadd (pc := 33) C dJ39_siftDownComparable_33 ?_
      obtain ⟨x3, ex3, hf⟩ := oB hf
      refine vst (Option.some.inj ex3) (fun z => .int z :: []) ?_
      refine v_istore (pc := 34) (lv' := [(8, false, .int x3), (7, false, va_rf x2), (6, false, .int x1), (0, false, .int a0), (2, false, va_rf a2), (3, false, .int a3), (4, false, va_rf a4), (5, false, .int a5)]) C dJ39_siftDownComparable_34 (by decide) rfl ?_
      refine v_iload (pc := 36) (j := 0) C dJ39_siftDownComparable_36 rfl ?_
      refine v_iload_n (pc := 38) (j := 5) C dJ39_siftDownComparable_38 rfl rfl ?_
      refine v_icmp_ge (pc := 39) (tgt := 68) C dJ39_siftDownComparable_39 rfl (fun hc => ?_) (fun hc => ?_)
      · rw [if_pos hc] at hf
        exact V.sub [3, 4, 5, 6, 7, 2, 1] rfl (vJ39_siftDownComparable_p68 X ih hf)
      · rw [if_neg hc] at hf
        refine v_aload (pc := 42) (j := 1) C dJ39_siftDownComparable_42 rfl ?_
        obtain ⟨_, e4, hf⟩ := oB hf
        refine v_cast (pc := 44) C q605 ct_java_lang_Comparable e4 dJ39_siftDownComparable_44 ?_
        refine v_aload_n (pc := 47) (j := 4) C dJ39_siftDownComparable_47 rfl rfl ?_
        refine v_iload (pc := 48) (j := 0) C dJ39_siftDownComparable_48 rfl ?_
        obtain ⟨x5, ex5, hf⟩ := oB hf
        refine v_aaload (pc := 50) C ex5 dJ39_siftDownComparable_50 ?_
        obtain ⟨x7, ex7, hf⟩ := oB hf
        refine v_call (pc := 51) (dd_Comparable_compareTo_22_10 (pc := 51) C q607 (by decide) (by decide) (Nat.le_trans aw_0 (by decide)) rfl ex7 dJ39_siftDownComparable_51) ?_
        refine v_if_le (pc := 56) (tgt := 68) C dJ39_siftDownComparable_56 rfl (fun hc => ?_) (fun hc => ?_)
        · rw [if_pos hc] at hf
          exact V.sub [3, 4, 5, 6, 7, 2, 1] rfl (vJ39_siftDownComparable_p68 X ih hf)
        · rw [if_neg hc] at hf
          refine v_aload_n (pc := 59) (j := 4) C dJ39_siftDownComparable_59 rfl rfl ?_
          refine v_iload (pc := 60) (j := 0) C dJ39_siftDownComparable_60 rfl ?_
          refine v_dup (pc := 62) C dJ39_siftDownComparable_62 rfl ?_
          refine v_istore (pc := 63) (lv' := [(6, false, .int x3), (8, false, .int x3), (7, false, va_rf x2), (0, false, .int a0), (2, false, va_rf a2), (3, false, .int a3), (4, false, va_rf a4), (5, false, .int a5)]) C dJ39_siftDownComparable_63 (by decide) rfl ?_
          obtain ⟨x9, ex9, hf⟩ := oB hf
          refine v_aaload (pc := 65) C ex9 dJ39_siftDownComparable_65 ?_
          refine v_astore (pc := 66) (lv' := [(7, false, va_rf x9), (6, false, .int x3), (8, false, .int x3), (0, false, .int a0), (2, false, va_rf a2), (3, false, .int a3), (4, false, va_rf a4), (5, false, .int a5)]) C dJ39_siftDownComparable_66 (by decide) rfl ?_
          exact V.sub [3, 4, 5, 6, 7, 1, 0] rfl (vJ39_siftDownComparable_p68 X ih hf)
def fJ39_siftDownComparable (D : aD) (h : aH) (a0 : Int32) (a1 : Option Nat) (a2 : Option Nat) (a3 : Int32) : Option (aH) :=
  (aCast h [6, 10, 22] a1).bind fun _ =>
  (some ((a3.toUInt32 >>> ((1 : Int32).toUInt32 &&& Int32.toUInt32 31)).toInt32)).bind fun x2 =>
  fJ39_siftDownComparable_p11 D FU h a0 a2 a3 a1 x2
theorem vJ39_siftDownComparable {h : aH} {a0 : Int32} {a1 : Option Nat} {a2 : Option Nat} {a3 : Int32} {g : aH} (X : aX p l R s m meth c D n0 s0 yJ39_siftDownComparable cJ39_siftDownComparable 3 63 9 (none) h0) (hf : fJ39_siftDownComparable D h a0 a1 a2 a3 = some g) : V p l e R s m args below meth c D n0 s0 (aEnd D below args s h0 (.inr none, g)) h 0 [(0, false, .int a0), (1, false, va_rf a1), (2, false, va_rf a2), (3, false, .int a3)] [] := by
  have C := X.1
  unfold fJ39_siftDownComparable at hf
  refine v_aload_n (pc := 0) (j := 1) C dJ39_siftDownComparable_0 rfl rfl ?_
  obtain ⟨_, e1, hf⟩ := oB hf
  refine v_cast (pc := 1) C q605 ct_java_lang_Comparable e1 dJ39_siftDownComparable_1 ?_
  refine v_astore (pc := 4) (lv' := [(4, false, va_rf a1), (0, false, .int a0), (1, false, va_rf a1), (2, false, va_rf a2), (3, false, .int a3)]) C dJ39_siftDownComparable_4 (by decide) rfl ?_
  refine v_iload_n (pc := 6) (j := 4) C dJ39_siftDownComparable_6 rfl rfl ?_
  refine v_iconst (pc := 7) (v := (1 : Int32)) C dJ39_siftDownComparable_7 rfl ?_
  refine v_iushr (pc := 8) C dJ39_siftDownComparable_8 ?_
  obtain ⟨x2, ex2, hf⟩ := oB hf
  refine vst (Option.some.inj ex2) (fun z => .int z :: []) ?_
  refine v_istore (pc := 9) (lv' := [(5, false, .int x2), (4, false, va_rf a1), (0, false, .int a0), (1, false, va_rf a1), (2, false, va_rf a2), (3, false, .int a3)]) C dJ39_siftDownComparable_9 (by decide) rfl ?_
  exact V.sub [2, 4, 5, 1, 0] rfl (vJ39_siftDownComparable_p11 X _ _ _ _ _ _ _ _ hf)
theorem mJ39_siftDownComparable {l : Launch} {D : aD} {h : aH} {a0 : Int32} {a1 : Option Nat} {a2 : Option Nat} {a3 : Int32} {g : aH} (hst : l.stackTraces = false) (hf : fJ39_siftDownComparable D h a0 a1 a2 a3 = some g) : aM l D yJ39_siftDownComparable cJ39_siftDownComparable 9 (none) 3 63 [.int a0, va_rf a1, va_rf a2, .int a3] h (.inr none, g) :=
  aM.ofX [(false, .int a0), (false, va_rf a1), (false, va_rf a2), (false, .int a3)] rfl (ap_c rfl (ap_r (ap_r (ap_c rfl ap_0)))) (by decide +kernel) hst (al_of (aw_i (aw_r (aw_r (aw_i aw_0)))) (by decide)) fun p e s m args below meth c X => V.sub (lv' := [(0, false, .int a0), (1, false, va_rf a1), (2, false, va_rf a2), (3, false, .int a3)]) [0, 1, 2, 3] rfl (vJ39_siftDownComparable X hf)
def fJ22_init (D : aD) (h : aH) (a0 : Option Nat) (a1 : Option Nat) : Option (aH) :=
  (pF D h 19 0 a0 (va_rf a1)).bind fun h1 =>
  (a0).bind fun _ =>
  (fJ0_init D h1 a0).bind fun _ =>
  some h1
theorem vJ22_init {h : aH} {a0 : Option Nat} {a1 : Option Nat} {g : aH} (X : aX p l R s m meth c D n0 s0 yJ22_init cJ22_init 2 32 2 (none) h0) (hf : fJ22_init D h a0 a1 = some g) : V p l e R s m args below meth c D n0 s0 (aEnd D below args s h0 (.inr none, g)) h 0 [(0, false, va_rf a0), (1, false, va_rf a1)] [] := by
  have C := X.1
  unfold fJ22_init at hf
  refine v_aload_n (pc := 0) (j := 0) C dJ22_init_0 rfl rfl ?_
  refine v_aload_n (pc := 1) (j := 1) C dJ22_init_1 rfl rfl ?_
  obtain ⟨h1, eh1, hf⟩ := oB hf
  refine v_putC (pc := 2) C X.2.2.2.2.2.1 lk_J22_1 rfl q904 tyJ22 tyJ22_ok nmJ22 (tyJ22_ok 0 (by decide)) rfl ft_o eh1 dJ22_init_2 ?_
  refine v_aload_n (pc := 5) (j := 0) C dJ22_init_5 rfl rfl ?_
  obtain ⟨_, eb2, hf⟩ := oB hf
  obtain ⟨x3, ex3, hf⟩ := oB hf
  refine v_callU (pc := 6) (d_I (pc := 6) C (As := []) (rest := []) eb2 rfl rfl q903 q149 yk_J0_init rfl (by decide) (by decide) (Nat.le_trans aw_0 (by decide)) rfl (mJ0_init C.st ex3) dJ22_init_6) ?_
  cases hf
  exact v_return (pc := 9) C X.2.1 X.2.2.1 X.2.2.2.1 rfl dJ22_init_9
theorem mJ22_init {l : Launch} {D : aD} {h : aH} {a0 : Option Nat} {a1 : Option Nat} {g : aH} (hst : l.stackTraces = false) (hf : fJ22_init D h a0 a1 = some g) : aM l D yJ22_init cJ22_init 2 (none) 2 32 [va_rf a0, va_rf a1] h (.inr none, g) :=
  aM.ofX [(false, va_rf a0), (false, va_rf a1)] rfl (ap_r (ap_r ap_0)) (by decide +kernel) hst (al_of (aw_r (aw_r aw_0)) (by decide)) fun p e s m args below meth c X => V.sub (lv' := [(0, false, va_rf a0), (1, false, va_rf a1)]) [0, 1] rfl (vJ22_init X hf)
def fJ4_values (D : aD) (h : aH) (a0 : Option Nat) : Option (Option Nat × aH) :=
  (gR h 16 1 a0).bind fun x1 =>
  if x1 = none then
  ((aMk D h (19, dfJ22)).bind fun h2 =>
  (fJ22_init D h2 (some h.1) a0).bind fun h5 =>
  (pF D h5 16 1 a0 (va_rf (some h.1))).bind fun h6 =>
  some ((some h.1), h6))
  else
  (some (x1, h))
theorem vJ4_values {h : aH} {a0 : Option Nat} {q : Option Nat} {g : aH} (X : aX p l R s m meth c D n0 s0 yJ4_values cJ4_values 3 53 2 (some (.object "java/util/Collection")) h0) (hf : fJ4_values D h a0 = some (q, g)) : V p l e R s m args below meth c D n0 s0 (aEnd D below args s h0 (.inr (some (va_rf q)), g)) h 0 [(0, false, va_rf a0)] [] := by
  have C := X.1
  unfold fJ4_values at hf
  refine v_aload_n (pc := 0) (j := 0) C dJ4_values_0 rfl rfl ?_
  obtain ⟨x1, ex1, hf⟩ := oB hf
  refine v_getF (pc := 1) C lk_J4_233 (gR_eq ex1) dJ4_values_1 ?_
  refine v_astore_n (pc := 4) (lv' := [(1, false, va_rf x1), (0, false, va_rf a0)]) C dJ4_values_4 rfl (by decide) rfl ?_
  refine v_aload_n (pc := 5) (j := 0) C dJ4_values_5 rfl rfl ?_
  refine v_ifnonnull (pc := 6) (tgt := 23) C dJ4_values_6 rfl (fun hc => ?_) (fun hc => ?_)
  · rw [if_neg hc] at hf
    refine v_aload_n (pc := 23) (j := 0) C dJ4_values_23 rfl rfl ?_
    cases hf
    exact v_areturn (pc := 24) C X.2.1 X.2.2.1 X.2.2.2.1 (Or.inl ⟨_, rfl⟩) rfl dJ4_values_24
  · rw [if_pos hc] at hf
    obtain ⟨h2, eh2, hf⟩ := oB hf
    refine v_new (pc := 9) (t := 19) (fs := dfJ22) (T := TJ22) (N := 1) C rfl in_J22 tyJ22 tyJ22_ok q898 q899 q104 dfJ22_ok rfl eh2 dJ4_values_9 ?_
    refine v_dup (pc := 12) C dJ4_values_12 (va_rfc _) ?_
    refine v_aload_n (pc := 13) (j := 1) C dJ4_values_13 rfl rfl ?_
    obtain ⟨h5, ex4, hf⟩ := oB hf
    refine v_callU (pc := 14) (d_I (pc := 14) C (As := [va_rf a0]) (rest := [va_rf (some h.1)]) rfl rfl rfl q900 q901 yk_J22_init rfl (by decide) (by decide) (Nat.le_trans (aw_r aw_0) (by decide)) rfl (mJ22_init C.st ex4) dJ4_values_14) ?_
    refine v_astore_n (pc := 17) (lv' := [(1, false, va_rf (some h.1)), (0, false, va_rf a0)]) C dJ4_values_17 rfl (by decide) rfl ?_
    refine v_aload_n (pc := 18) (j := 1) C dJ4_values_18 rfl rfl ?_
    refine v_aload_n (pc := 19) (j := 0) C dJ4_values_19 rfl rfl ?_
    obtain ⟨h6, eh6, hf⟩ := oB hf
    refine v_putF (pc := 20) C lk_J4_233 tyJ4 tyJ4_ok nmJ4 (tyJ4_ok 1 (by decide)) rfl ft_o eh6 dJ4_values_20 ?_
    refine v_aload_n (pc := 23) (j := 0) C dJ4_values_23 rfl rfl ?_
    cases hf
    exact v_areturn (pc := 24) C X.2.1 X.2.2.1 X.2.2.2.1 (Or.inl ⟨_, rfl⟩) rfl dJ4_values_24
theorem mJ4_values {l : Launch} {D : aD} {h : aH} {a0 : Option Nat} {q : Option Nat} {g : aH} (hst : l.stackTraces = false) (hf : fJ4_values D h a0 = some (q, g)) : aM l D yJ4_values cJ4_values 2 (some (.object "java/util/Collection")) 3 53 [va_rf a0] h (.inr (some (va_rf q)), g) :=
  aM.ofX [(false, va_rf a0)] rfl (ap_r ap_0) (by decide +kernel) hst (al_of (aw_r aw_0) (by decide)) fun p e s m args below meth c X => V.sub (lv' := [(0, false, va_rf a0)]) [0] rfl (vJ4_values X hf)
def fJ4_getFirstEntry_p9 (D : aD) (h : aH) : Nat → (Option Nat) → Option (Option Nat)
  | 0, _ => none
  | n + 1, a1 =>
  (gR h 17 2 a1).bind fun x1 =>
  if x1 = none then
  (some a1)
  else
  ((gR h 17 2 a1).bind fun x2 =>
  fJ4_getFirstEntry_p9 D h n x2)
theorem vJ4_getFirstEntry_p9 {h : aH} (X : aX p l R s m meth c D n0 s0 yJ4_getFirstEntry cJ4_getFirstEntry 0 0 2 (some (.object "java/util/TreeMap$Entry")) h0) : ∀ (n : Nat) (a1 : Option Nat) (q : Option Nat), fJ4_getFirstEntry_p9 D h n a1 = some q → V p l e R s m args below meth c D n0 s0 (aEnd D below args s h0 (.inr (some (va_rf q)), h)) h 9 [(1, false, va_rf a1)] [] := by
  have C := X.1
  intro n
  induction n with
  | zero =>
    intro _ _ hf
    rw [fJ4_getFirstEntry_p9] at hf
    cases hf
  | succ n ih =>
    intro a1 q hf
    rw [fJ4_getFirstEntry_p9] at hf
    refine v_aload_n (pc := 9) (j := 0) C dJ4_getFirstEntry_9 rfl rfl ?_
    obtain ⟨x1, ex1, hf⟩ := oB hf
    refine v_getF (pc := 10) C lk_J4_111 (gR_eq ex1) dJ4_getFirstEntry_10 ?_
    refine v_ifnull (pc := 13) (tgt := 24) C dJ4_getFirstEntry_13 rfl (fun hc => ?_) (fun hc => ?_)
    · rw [if_pos hc] at hf
      refine v_aload_n (pc := 24) (j := 0) C dJ4_getFirstEntry_24 rfl rfl ?_
      cases hf
      exact v_areturn (pc := 25) C X.2.1 X.2.2.1 X.2.2.2.1 (Or.inl ⟨_, rfl⟩) rfl dJ4_getFirstEntry_25
    · rw [if_neg hc] at hf
      refine v_aload_n (pc := 16) (j := 0) C dJ4_getFirstEntry_16 rfl rfl ?_
      obtain ⟨x2, ex2, hf⟩ := oB hf
      refine v_getF (pc := 17) C lk_J4_111 (gR_eq ex2) dJ4_getFirstEntry_17 ?_
      refine v_astore_n (pc := 20) (lv' := [(1, false, va_rf x2)]) C dJ4_getFirstEntry_20 rfl (by decide) rfl ?_
      refine v_goto (pc := 21) (tgt := 9) C dJ4_getFirstEntry_21 rfl ?_
      exact V.sub [0] rfl (ih _ _ hf)
def fJ4_getFirstEntry (D : aD) (h : aH) (a0 : Option Nat) : Option (Option Nat) :=
  (gR h 16 3 a0).bind fun x1 =>
  if x1 = none then
  (some x1)
  else
  (fJ4_getFirstEntry_p9 D h FU x1)
theorem vJ4_getFirstEntry {h : aH} {a0 : Option Nat} {q : Option Nat} (X : aX p l R s m meth c D n0 s0 yJ4_getFirstEntry cJ4_getFirstEntry 0 0 2 (some (.object "java/util/TreeMap$Entry")) h0) (hf : fJ4_getFirstEntry D h a0 = some q) : V p l e R s m args below meth c D n0 s0 (aEnd D below args s h0 (.inr (some (va_rf q)), h)) h 0 [(0, false, va_rf a0)] [] := by
  have C := X.1
  unfold fJ4_getFirstEntry at hf
  refine v_aload_n (pc := 0) (j := 0) C dJ4_getFirstEntry_0 rfl rfl ?_
  obtain ⟨x1, ex1, hf⟩ := oB hf
  refine v_getF (pc := 1) C lk_J4_101 (gR_eq ex1) dJ4_getFirstEntry_1 ?_
  refine v_astore_n (pc := 4) (lv' := [(1, false, va_rf x1), (0, false, va_rf a0)]) C dJ4_getFirstEntry_4 rfl (by decide) rfl ?_
  refine v_aload_n (pc := 5) (j := 0) C dJ4_getFirstEntry_5 rfl rfl ?_
  refine v_ifnull (pc := 6) (tgt := 24) C dJ4_getFirstEntry_6 rfl (fun hc => ?_) (fun hc => ?_)
  · rw [if_pos hc] at hf
    refine v_aload_n (pc := 24) (j := 0) C dJ4_getFirstEntry_24 rfl rfl ?_
    cases hf
    exact v_areturn (pc := 25) C X.2.1 X.2.2.1 X.2.2.2.1 (Or.inl ⟨_, rfl⟩) rfl dJ4_getFirstEntry_25
  · rw [if_neg hc] at hf
    exact V.sub [0] rfl (vJ4_getFirstEntry_p9 X _ _ _ hf)
theorem mJ4_getFirstEntry {l : Launch} {D : aD} {h : aH} {a0 : Option Nat} {q : Option Nat} (hst : l.stackTraces = false) (hf : fJ4_getFirstEntry D h a0 = some q) : aM l D yJ4_getFirstEntry cJ4_getFirstEntry 2 (some (.object "java/util/TreeMap$Entry")) 0 0 [va_rf a0] h (.inr (some (va_rf q)), h) :=
  aM.ofX [(false, va_rf a0)] rfl (ap_r ap_0) (by decide +kernel) hst (al_of (aw_r aw_0) (by decide)) fun p e s m args below meth c X => V.sub (lv' := [(0, false, va_rf a0)]) [0] rfl (vJ4_getFirstEntry X hf)
def fJ25_init (D : aD) (h : aH) (a0 : Option Nat) (a1 : Option Nat) (a2 : Option Nat) : Option (aH) :=
  (pF D h 20 3 a0 (va_rf a1)).bind fun h1 =>
  (a0).bind fun _ =>
  (gI h1 16 5 a1).bind fun x3 =>
  (pF D h1 20 2 a0 (.int x3)).bind fun h4 =>
  (pF D h4 20 1 a0 (va_rf none)).bind fun h5 =>
  (pF D h5 20 0 a0 (va_rf a2)).bind fun h6 =>
  some h6
theorem vJ25_init {h : aH} {a0 : Option Nat} {a1 : Option Nat} {a2 : Option Nat} {g : aH} (X : aX p l R s m meth c D n0 s0 yJ25_init cJ25_init 1 12 3 (none) h0) (hf : fJ25_init D h a0 a1 a2 = some g) : V p l e R s m args below meth c D n0 s0 (aEnd D below args s h0 (.inr none, g)) h 0 [(0, false, va_rf a0), (1, false, va_rf a1), (2, false, va_rf a2)] [] := by
  have C := X.1
  unfold fJ25_init at hf
  refine v_aload_n (pc := 0) (j := 0) C dJ25_init_0 rfl rfl ?_
  refine v_aload_n (pc := 1) (j := 1) C dJ25_init_1 rfl rfl ?_
  obtain ⟨h1, eh1, hf⟩ := oB hf
  refine v_putC (pc := 2) C X.2.2.2.2.2.1 lk_J25_1 rfl q990 tyJ28 tyJ28_ok nmJ28 (tyJ28_ok 3 (by decide)) rfl ft_o eh1 dJ25_init_2 ?_
  refine v_aload_n (pc := 5) (j := 0) C dJ25_init_5 rfl rfl ?_
  obtain ⟨_, e2, hf⟩ := oB hf
  refine v_objInit (pc := 6) C e2 q986 q138 q139 (by decide) (Nat.le_trans (Nat.add_le_add_right aw_0 12) (by decide)) dJ25_init_6 ?_
  refine v_aload_n (pc := 9) (j := 0) C dJ25_init_9 rfl rfl ?_
  refine v_aload_n (pc := 10) (j := 1) C dJ25_init_10 rfl rfl ?_
  obtain ⟨x3, ex3, hf⟩ := oB hf
  refine v_getF (pc := 11) C lk_J25_13 (gI_eq ex3) dJ25_init_11 ?_
  obtain ⟨h4, eh4, hf⟩ := oB hf
  refine v_putF (pc := 14) C lk_J25_19 tyJ28 tyJ28_ok nmJ28 (tyJ28_ok 2 (by decide)) rfl rfl eh4 dJ25_init_14 ?_
  refine v_aload_n (pc := 17) (j := 0) C dJ25_init_17 rfl rfl ?_
  refine v_null (pc := 18) C dJ25_init_18 ?_
  obtain ⟨h5, eh5, hf⟩ := oB hf
  refine v_putF (pc := 19) C lk_J25_22 tyJ28 tyJ28_ok nmJ28 (tyJ28_ok 1 (by decide)) rfl ft_o eh5 dJ25_init_19 ?_
  refine v_aload_n (pc := 22) (j := 0) C dJ25_init_22 rfl rfl ?_
  refine v_aload_n (pc := 23) (j := 2) C dJ25_init_23 rfl rfl ?_
  obtain ⟨h6, eh6, hf⟩ := oB hf
  refine v_putF (pc := 24) C lk_J25_26 tyJ28 tyJ28_ok nmJ28 (tyJ28_ok 0 (by decide)) rfl ft_o eh6 dJ25_init_24 ?_
  cases hf
  exact v_return (pc := 27) C X.2.1 X.2.2.1 X.2.2.2.1 rfl dJ25_init_27
theorem mJ25_init {l : Launch} {D : aD} {h : aH} {a0 : Option Nat} {a1 : Option Nat} {a2 : Option Nat} {g : aH} (hst : l.stackTraces = false) (hf : fJ25_init D h a0 a1 a2 = some g) : aM l D yJ25_init cJ25_init 3 (none) 1 12 [va_rf a0, va_rf a1, va_rf a2] h (.inr none, g) :=
  aM.ofX [(false, va_rf a0), (false, va_rf a1), (false, va_rf a2)] rfl (ap_r (ap_r (ap_r ap_0))) (by decide +kernel) hst (al_of (aw_r (aw_r (aw_r aw_0))) (by decide)) fun p e s m args below meth c X => V.sub (lv' := [(0, false, va_rf a0), (1, false, va_rf a1), (2, false, va_rf a2)]) [0, 1, 2] rfl (vJ25_init X hf)
def fJ28_init (D : aD) (h : aH) (a0 : Option Nat) (a1 : Option Nat) (a2 : Option Nat) : Option (aH) :=
  (a0).bind fun _ =>
  (fJ25_init D h a0 a1 a2).bind fun h3 =>
  some h3
theorem vJ28_init {h : aH} {a0 : Option Nat} {a1 : Option Nat} {a2 : Option Nat} {g : aH} (X : aX p l R s m meth c D n0 s0 yJ28_init cJ28_init 2 34 3 (none) h0) (hf : fJ28_init D h a0 a1 a2 = some g) : V p l e R s m args below meth c D n0 s0 (aEnd D below args s h0 (.inr none, g)) h 0 [(0, false, va_rf a0), (1, false, va_rf a1), (2, false, va_rf a2)] [] := by
  have C := X.1
  unfold fJ28_init at hf
  refine v_aload_n (pc := 0) (j := 0) C dJ28_init_0 rfl rfl ?_
  refine v_aload_n (pc := 1) (j := 1) C dJ28_init_1 rfl rfl ?_
  refine v_aload_n (pc := 2) (j := 2) C dJ28_init_2 rfl rfl ?_
  obtain ⟨_, eb1, hf⟩ := oB hf
  obtain ⟨h3, ex2, hf⟩ := oB hf
  refine v_callU (pc := 3) (d_I (pc := 3) C (As := [va_rf a1, va_rf a2]) (rest := []) eb1 rfl rfl q1039 q984 yk_J25_init rfl (by decide) (by decide) (Nat.le_trans aw_0 (by decide)) rfl (mJ25_init C.st ex2) dJ28_init_3) ?_
  cases hf
  exact v_return (pc := 6) C X.2.1 X.2.2.1 X.2.2.2.1 rfl dJ28_init_6
theorem mJ28_init {l : Launch} {D : aD} {h : aH} {a0 : Option Nat} {a1 : Option Nat} {a2 : Option Nat} {g : aH} (hst : l.stackTraces = false) (hf : fJ28_init D h a0 a1 a2 = some g) : aM l D yJ28_init cJ28_init 3 (none) 2 34 [va_rf a0, va_rf a1, va_rf a2] h (.inr none, g) :=
  aM.ofX [(false, va_rf a0), (false, va_rf a1), (false, va_rf a2)] rfl (ap_r (ap_r (ap_r ap_0))) (by decide +kernel) hst (al_of (aw_r (aw_r (aw_r aw_0))) (by decide)) fun p e s m args below meth c X => V.sub (lv' := [(0, false, va_rf a0), (1, false, va_rf a1), (2, false, va_rf a2)]) [0, 1, 2] rfl (vJ28_init X hf)
def fJ22_iterator (D : aD) (h : aH) (a0 : Option Nat) : Option (Option Nat × aH) :=
  (aMk D h (20, dfJ28)).bind fun h1 =>
  (gR h1 19 0 a0).bind fun x2 =>
  (gR h1 19 0 a0).bind fun x3 =>
  (aIs h1 16 x3).bind fun _ =>
  (fJ4_getFirstEntry D h1 x3).bind fun x5 =>
  (fJ28_init D h1 (some h.1) x2 x5).bind fun h9 =>
  some ((some h.1), h9)
theorem vJ22_iterator {h : aH} {a0 : Option Nat} {q : Option Nat} {g : aH} (X : aX p l R s m meth c D n0 s0 yJ22_iterator cJ22_iterator 3 56 1 (some (.object "java/util/Iterator")) h0) (hf : fJ22_iterator D h a0 = some (q, g)) : V p l e R s m args below meth c D n0 s0 (aEnd D below args s h0 (.inr (some (va_rf q)), g)) h 0 [(0, false, va_rf a0)] [] := by
  have C := X.1
  unfold fJ22_iterator at hf
  obtain ⟨h1, eh1, hf⟩ := oB hf
  refine v_new (pc := 0) (t := 20) (fs := dfJ28) (T := TJ28) (N := 4) C rfl in_J28 tyJ28 tyJ28_ok q1033 q1034 q110 dfJ28_ok rfl eh1 dJ22_iterator_0 ?_
  refine v_dup (pc := 3) C dJ22_iterator_3 (va_rfc _) ?_
  refine v_aload_n (pc := 4) (j := 0) C dJ22_iterator_4 rfl rfl ?_
  obtain ⟨x2, ex2, hf⟩ := oB hf
  refine v_getF (pc := 5) C lk_J22_1 (gR_eq ex2) dJ22_iterator_5 ?_
  refine v_aload_n (pc := 8) (j := 0) C dJ22_iterator_8 rfl rfl ?_
  obtain ⟨x3, ex3, hf⟩ := oB hf
  refine v_getF (pc := 9) C lk_J22_1 (gR_eq ex3) dJ22_iterator_9 ?_
  obtain ⟨b4, eb4, hf⟩ := oB hf
  obtain ⟨rb4, _, kb4⟩ := aIs_eq eb4
  obtain ⟨x5, ex5, hf⟩ := oB hf
  refine v_call (pc := 12) (d_V (pc := 12) C (As := []) (rest := [va_rf x2, va_rf (some h.1), va_rf (some h.1)]) rb4 kb4 nt_16 q1035 yi_J4_getFirstEntry_java_util_TreeMap yk_J4_getFirstEntry rfl (by decide) (by decide) (Nat.le_trans (aw_r (aw_r (aw_r aw_0))) (by decide)) rfl (mJ4_getFirstEntry C.st ex5) dJ22_iterator_12) ?_
  obtain ⟨h9, ex8, hf⟩ := oB hf
  refine v_callU (pc := 15) (d_I (pc := 15) C (As := [va_rf x2, va_rf x5]) (rest := [va_rf (some h.1)]) rfl rfl rfl q1036 q1037 yk_J28_init rfl (by decide) (by decide) (Nat.le_trans (aw_r aw_0) (by decide)) rfl (mJ28_init C.st ex8) dJ22_iterator_15) ?_
  cases hf
  exact v_areturn (pc := 18) C X.2.1 X.2.2.1 X.2.2.2.1 (Or.inl ⟨_, rfl⟩) rfl dJ22_iterator_18
theorem mJ22_iterator {l : Launch} {D : aD} {h : aH} {a0 : Option Nat} {q : Option Nat} {g : aH} (hst : l.stackTraces = false) (hf : fJ22_iterator D h a0 = some (q, g)) : aM l D yJ22_iterator cJ22_iterator 1 (some (.object "java/util/Iterator")) 3 56 [va_rf a0] h (.inr (some (va_rf q)), g) :=
  aM.ofX [(false, va_rf a0)] rfl (ap_r ap_0) (by decide +kernel) hst (al_of (aw_r aw_0) (by decide)) fun p e s m args below meth c X => V.sub (lv' := [(0, false, va_rf a0)]) [0] rfl (vJ22_iterator X hf)
def fJ25_hasNext (D : aD) (h : aH) (a0 : Option Nat) : Option (Int32) :=
  (gR h 20 0 a0).bind fun x1 =>
  if x1 = none then
  (some (0 : Int32))
  else
  (some (1 : Int32))
theorem vJ25_hasNext {h : aH} {a0 : Option Nat} {q : Int32} (X : aX p l R s m meth c D n0 s0 yJ25_hasNext cJ25_hasNext 0 0 1 (some .boolean) h0) (hf : fJ25_hasNext D h a0 = some q) : V p l e R s m args below meth c D n0 s0 (aEnd D below args s h0 (.inr (some (.int q)), h)) h 0 [(0, false, va_rf a0)] [] := by
  have C := X.1
  unfold fJ25_hasNext at hf
  refine v_aload_n (pc := 0) (j := 0) C dJ25_hasNext_0 rfl rfl ?_
  obtain ⟨x1, ex1, hf⟩ := oB hf
  refine v_getF (pc := 1) C lk_J25_26 (gR_eq ex1) dJ25_hasNext_1 ?_
  refine v_ifnull (pc := 4) (tgt := 11) C dJ25_hasNext_4 rfl (fun hc => ?_) (fun hc => ?_)
  · rw [if_pos hc] at hf
    refine v_iconst (pc := 11) (v := (0 : Int32)) C dJ25_hasNext_11 rfl ?_
    cases hf
    exact v_zreturn (pc := 12) C X.2.1 X.2.2.1 X.2.2.2.1 (by decide) rfl dJ25_hasNext_12
  · rw [if_neg hc] at hf
    refine v_iconst (pc := 7) (v := (1 : Int32)) C dJ25_hasNext_7 rfl ?_
    refine v_goto (pc := 8) (tgt := 12) C dJ25_hasNext_8 rfl ?_
    cases hf
    exact v_zreturn (pc := 12) C X.2.1 X.2.2.1 X.2.2.2.1 (by decide) rfl dJ25_hasNext_12
theorem mJ25_hasNext {l : Launch} {D : aD} {h : aH} {a0 : Option Nat} {q : Int32} (hst : l.stackTraces = false) (hf : fJ25_hasNext D h a0 = some q) : aM l D yJ25_hasNext cJ25_hasNext 1 (some .boolean) 0 0 [va_rf a0] h (.inr (some (.int q)), h) :=
  aM.ofX [(false, va_rf a0)] rfl (ap_r ap_0) (by decide +kernel) hst (al_of (aw_r aw_0) (by decide)) fun p e s m args below meth c X => V.sub (lv' := [(0, false, va_rf a0)]) [0] rfl (vJ25_hasNext X hf)
def fJ4_successor_p18 (D : aD) (h : aH) : Nat → (Option Nat) → Option (Option Nat)
  | 0, _ => none
  | n + 1, a1 =>
  (gR h 17 2 a1).bind fun x1 =>
  if x1 = none then
  (some a1)
  else
  ((gR h 17 2 a1).bind fun x2 =>
  fJ4_successor_p18 D h n x2)
theorem vJ4_successor_p18 {h : aH} (X : aX p l R s m meth c D n0 s0 yJ4_successor cJ4_successor 0 0 3 (some (.object "java/util/TreeMap$Entry")) h0) : ∀ (n : Nat) (a1 : Option Nat) (q : Option Nat), fJ4_successor_p18 D h n a1 = some q → V p l e R s m args below meth c D n0 s0 (aEnd D below args s h0 (.inr (some (va_rf q)), h)) h 18 [(1, false, va_rf a1)] [] := by
  have C := X.1
  intro n
  induction n with
  | zero =>
    intro _ _ hf
    rw [fJ4_successor_p18] at hf
    cases hf
  | succ n ih =>
    intro a1 q hf
    rw [fJ4_successor_p18] at hf
    refine v_aload_n (pc := 18) (j := 0) C dJ4_successor_18 rfl rfl ?_
    obtain ⟨x1, ex1, hf⟩ := oB hf
    refine v_getF (pc := 19) C lk_J4_111 (gR_eq ex1) dJ4_successor_19 ?_
    refine v_ifnull (pc := 22) (tgt := 33) C dJ4_successor_22 rfl (fun hc => ?_) (fun hc => ?_)
    · rw [if_pos hc] at hf
      refine v_aload_n (pc := 33) (j := 0) C dJ4_successor_33 rfl rfl ?_
      cases hf
      exact v_areturn (pc := 34) C X.2.1 X.2.2.1 X.2.2.2.1 (Or.inl ⟨_, rfl⟩) rfl dJ4_successor_34
    · rw [if_neg hc] at hf
      refine v_aload_n (pc := 25) (j := 0) C dJ4_successor_25 rfl rfl ?_
      obtain ⟨x2, ex2, hf⟩ := oB hf
      refine v_getF (pc := 26) C lk_J4_111 (gR_eq ex2) dJ4_successor_26 ?_
      refine v_astore_n (pc := 29) (lv' := [(1, false, va_rf x2)]) C dJ4_successor_29 rfl (by decide) rfl ?_
      refine v_goto (pc := 30) (tgt := 18) C dJ4_successor_30 rfl ?_
      exact V.sub [0] rfl (ih _ _ hf)
def fJ4_successor_p42 (D : aD) (h : aH) : Nat → (Option Nat) → (Option Nat) → Option (Option Nat)
  | 0, _, _ => none
  | n + 1, a1, a2 =>
  if a1 = none then
  (some a1)
  else
  ((gR h 17 3 a1).bind fun x1 =>
  if a2 = x1 then
  ((gR h 17 4 a1).bind fun x2 =>
  fJ4_successor_p42 D h n x2 a1)
  else
  (some a1))
theorem vJ4_successor_p42 {h : aH} (X : aX p l R s m meth c D n0 s0 yJ4_successor cJ4_successor 0 0 3 (some (.object "java/util/TreeMap$Entry")) h0) : ∀ (n : Nat) (a1 : Option Nat) (a2 : Option Nat) (q : Option Nat), fJ4_successor_p42 D h n a1 a2 = some q → V p l e R s m args below meth c D n0 s0 (aEnd D below args s h0 (.inr (some (va_rf q)), h)) h 42 [(1, false, va_rf a1), (2, false, va_rf a2)] [] := by
  have C := X.1
  intro n
  induction n with
  | zero =>
    intro _ _ _ hf
    rw [fJ4_successor_p42] at hf
    cases hf
  | succ n ih =>
    intro a1 a2 q hf
    rw [fJ4_successor_p42] at hf
    refine v_aload_n (pc := 42) (j := 0) C dJ4_successor_42 rfl rfl ?_
    refine v_ifnull (pc := 43) (tgt := 64) C dJ4_successor_43 rfl (fun hc => ?_) (fun hc => ?_)
    · rw [if_pos hc] at hf
      refine v_aload_n (pc := 64) (j := 0) C dJ4_successor_64 rfl rfl ?_
      cases hf
      exact v_areturn (pc := 65) C X.2.1 X.2.2.1 X.2.2.2.1 (Or.inl ⟨_, rfl⟩) rfl dJ4_successor_65
    · rw [if_neg hc] at hf
      refine v_aload_n (pc := 46) (j := 1) C dJ4_successor_46 rfl rfl ?_
      refine v_aload_n (pc := 47) (j := 0) C dJ4_successor_47 rfl rfl ?_
      obtain ⟨x1, ex1, hf⟩ := oB hf
      refine v_getF (pc := 48) C lk_J4_114 (gR_eq ex1) dJ4_successor_48 ?_
      refine v_acmp_ne (pc := 51) (tgt := 64) C dJ4_successor_51 rfl (fun hc => ?_) (fun hc => ?_)
      · rw [if_neg hc] at hf
        refine v_aload_n (pc := 64) (j := 0) C dJ4_successor_64 rfl rfl ?_
        cases hf
        exact v_areturn (pc := 65) C X.2.1 X.2.2.1 X.2.2.2.1 (Or.inl ⟨_, rfl⟩) rfl dJ4_successor_65
      · rw [if_pos (Decidable.of_not_not hc)] at hf
        refine v_aload_n (pc := 54) (j := 0) C dJ4_successor_54 rfl rfl ?_
        refine v_astore_n (pc := 55) (lv' := [(2, false, va_rf a1), (1, false, va_rf a1)]) C dJ4_successor_55 rfl (by decide) rfl ?_
        refine v_aload_n (pc := 56) (j := 1) C dJ4_successor_56 rfl rfl ?_
        obtain ⟨x2, ex2, hf⟩ := oB hf
        refine v_getF (pc := 57) C lk_J4_124 (gR_eq ex2) dJ4_successor_57 ?_
        refine v_astore_n (pc := 60) (lv' := [(1, false, va_rf x2), (2, false, va_rf a1)]) C dJ4_successor_60 rfl (by decide) rfl ?_
        refine v_goto (pc := 61) (tgt := 42) C dJ4_successor_61 rfl ?_
        exact V.sub [0, 1] rfl (ih _ _ _ hf)
def fJ4_successor (D : aD) (h : aH) (a0 : Option Nat) : Option (Option Nat) :=
  if a0 = none then
  (some none)
  else
  ((gR h 17 3 a0).bind fun x1 =>
  if x1 = none then
  ((gR h 17 4 a0).bind fun x2 =>
  fJ4_successor_p42 D h FU x2 a0)
  else
  ((gR h 17 3 a0).bind fun x3 =>
  fJ4_successor_p18 D h FU x3))
theorem vJ4_successor {h : aH} {a0 : Option Nat} {q : Option Nat} (X : aX p l R s m meth c D n0 s0 yJ4_successor cJ4_successor 0 0 3 (some (.object "java/util/TreeMap$Entry")) h0) (hf : fJ4_successor D h a0 = some q) : V p l e R s m args below meth c D n0 s0 (aEnd D below args s h0 (.inr (some (va_rf q)), h)) h 0 [(0, false, va_rf a0)] [] := by
  have C := X.1
  unfold fJ4_successor at hf
  refine v_aload_n (pc := 0) (j := 0) C dJ4_successor_0 rfl rfl ?_
  refine v_ifnonnull (pc := 1) (tgt := 6) C dJ4_successor_1 rfl (fun hc => ?_) (fun hc => ?_)
  · rw [if_neg hc] at hf
    refine v_aload_n (pc := 6) (j := 0) C dJ4_successor_6 rfl rfl ?_
    obtain ⟨x1, ex1, hf⟩ := oB hf
    refine v_getF (pc := 7) C lk_J4_114 (gR_eq ex1) dJ4_successor_7 ?_
    refine v_ifnull (pc := 10) (tgt := 35) C dJ4_successor_10 rfl (fun hc => ?_) (fun hc => ?_)
    · rw [if_pos hc] at hf
      refine v_aload_n (pc := 35) (j := 0) C dJ4_successor_35 rfl rfl ?_
      obtain ⟨x2, ex2, hf⟩ := oB hf
      refine v_getF (pc := 36) C lk_J4_124 (gR_eq ex2) dJ4_successor_36 ?_
      refine v_astore_n (pc := 39) (lv' := [(1, false, va_rf x2), (0, false, va_rf a0)]) C dJ4_successor_39 rfl (by decide) rfl ?_
      refine v_aload_n (pc := 40) (j := 1) C dJ4_successor_40 rfl rfl ?_
      refine v_astore_n (pc := 41) (lv' := [(2, false, va_rf a0), (1, false, va_rf x2), (0, false, va_rf a0)]) C dJ4_successor_41 rfl (by decide) rfl ?_
      exact V.sub [1, 0] rfl (vJ4_successor_p42 X _ _ _ _ hf)
    · rw [if_neg hc] at hf
      refine v_aload_n (pc := 13) (j := 0) C dJ4_successor_13 rfl rfl ?_
      obtain ⟨x3, ex3, hf⟩ := oB hf
      refine v_getF (pc := 14) C lk_J4_114 (gR_eq ex3) dJ4_successor_14 ?_
      refine v_astore_n (pc := 17) (lv' := [(1, false, va_rf x3), (0, false, va_rf a0)]) C dJ4_successor_17 rfl (by decide) rfl ?_
      exact V.sub [0] rfl (vJ4_successor_p18 X _ _ _ hf)
  · rw [if_pos hc] at hf
    refine v_null (pc := 4) C dJ4_successor_4 ?_
    cases hf
    exact v_areturn (pc := 5) C X.2.1 X.2.2.1 X.2.2.2.1 (Or.inl ⟨_, rfl⟩) rfl dJ4_successor_5
theorem mJ4_successor {l : Launch} {D : aD} {h : aH} {a0 : Option Nat} {q : Option Nat} (hst : l.stackTraces = false) (hf : fJ4_successor D h a0 = some q) : aM l D yJ4_successor cJ4_successor 3 (some (.object "java/util/TreeMap$Entry")) 0 0 [va_rf a0] h (.inr (some (va_rf q)), h) :=
  aM.ofX [(false, va_rf a0)] rfl (ap_r ap_0) (by decide +kernel) hst (al_of (aw_r aw_0) (by decide)) fun p e s m args below meth c X => V.sub (lv' := [(0, false, va_rf a0)]) [0] rfl (vJ4_successor X hf)
def fJ25_nextEntry (D : aD) (h : aH) (a0 : Option Nat) : Option (Option Nat × aH) :=
  (gR h 20 0 a0).bind fun x1 =>
  if x1 = none then
  (none)
  else
  ((gR h 20 3 a0).bind fun x2 =>
  (gI h 16 5 x2).bind fun x3 =>
  (gI h 20 2 a0).bind fun x4 =>
  if x3 = x4 then
  ((fJ4_successor D h x1).bind fun x6 =>
  (pF D h 20 0 a0 (va_rf x6)).bind fun h8 =>
  (pF D h8 20 1 a0 (va_rf x1)).bind fun h9 =>
  some (x1, h9))
  else
  (none))
theorem vJ25_nextEntry {h : aH} {a0 : Option Nat} {q : Option Nat} {g : aH} (X : aX p l R s m meth c D n0 s0 yJ25_nextEntry cJ25_nextEntry 1 22 2 (some (.object "java/util/TreeMap$Entry")) h0) (hf : fJ25_nextEntry D h a0 = some (q, g)) : V p l e R s m args below meth c D n0 s0 (aEnd D below args s h0 (.inr (some (va_rf q)), g)) h 0 [(0, false, va_rf a0)] [] := by
  have C := X.1
  unfold fJ25_nextEntry at hf
  refine v_aload_n (pc := 0) (j := 0) C dJ25_nextEntry_0 rfl rfl ?_
  obtain ⟨x1, ex1, hf⟩ := oB hf
  refine v_getF (pc := 1) C lk_J25_26 (gR_eq ex1) dJ25_nextEntry_1 ?_
  refine v_astore_n (pc := 4) (lv' := [(1, false, va_rf x1), (0, false, va_rf a0)]) C dJ25_nextEntry_4 rfl (by decide) rfl ?_
  refine v_aload_n (pc := 5) (j := 0) C dJ25_nextEntry_5 rfl rfl ?_
  refine v_ifnonnull (pc := 6) (tgt := 17) C dJ25_nextEntry_6 rfl (fun hc => ?_) (fun hc => ?_)
  · rw [if_neg hc] at hf
    refine v_aload_n (pc := 17) (j := 1) C dJ25_nextEntry_17 rfl rfl ?_
    obtain ⟨x2, ex2, hf⟩ := oB hf
    refine v_getF (pc := 18) C lk_J25_1 (gR_eq ex2) dJ25_nextEntry_18 ?_
    obtain ⟨x3, ex3, hf⟩ := oB hf
    refine v_getF (pc := 21) C lk_J25_13 (gI_eq ex3) dJ25_nextEntry_21 ?_
    refine v_aload_n (pc := 24) (j := 1) C dJ25_nextEntry_24 rfl rfl ?_
    obtain ⟨x4, ex4, hf⟩ := oB hf
    refine v_getF (pc := 25) C lk_J25_19 (gI_eq ex4) dJ25_nextEntry_25 ?_
    refine v_icmp_eq (pc := 28) (tgt := 39) C dJ25_nextEntry_28 rfl (fun hc => ?_) (fun hc => ?_)
    · rw [if_pos hc] at hf
      refine v_aload_n (pc := 39) (j := 1) C dJ25_nextEntry_39 rfl rfl ?_
      refine v_aload_n (pc := 40) (j := 0) C dJ25_nextEntry_40 rfl rfl ?_
      obtain ⟨x6, ex6, hf⟩ := oB hf
      refine v_call (pc := 41) (d_S (pc := 41) C (As := [va_rf x1]) (rest := [va_rf a0]) q1160 q1161 yk_J4_successor rfl (by decide) (by decide) (Nat.le_trans (aw_r aw_0) (by decide)) rfl (mJ4_successor C.st ex6) dJ25_nextEntry_41) ?_
      obtain ⟨h8, eh8, hf⟩ := oB hf
      refine v_putF (pc := 44) C lk_J25_26 tyJ28 tyJ28_ok nmJ28 (tyJ28_ok 0 (by decide)) rfl ft_o eh8 dJ25_nextEntry_44 ?_
      refine v_aload_n (pc := 47) (j := 1) C dJ25_nextEntry_47 rfl rfl ?_
      refine v_aload_n (pc := 48) (j := 0) C dJ25_nextEntry_48 rfl rfl ?_
      obtain ⟨h9, eh9, hf⟩ := oB hf
      refine v_putF (pc := 49) C lk_J25_22 tyJ28 tyJ28_ok nmJ28 (tyJ28_ok 1 (by decide)) rfl ft_o eh9 dJ25_nextEntry_49 ?_
      refine v_aload_n (pc := 52) (j := 0) C dJ25_nextEntry_52 rfl rfl ?_
      cases hf
      exact v_areturn (pc := 53) C X.2.1 X.2.2.1 X.2.2.2.1 (Or.inl ⟨_, rfl⟩) rfl dJ25_nextEntry_53
    · rw [if_neg hc] at hf
      cases hf
  · rw [if_pos hc] at hf
    cases hf
theorem mJ25_nextEntry {l : Launch} {D : aD} {h : aH} {a0 : Option Nat} {q : Option Nat} {g : aH} (hst : l.stackTraces = false) (hf : fJ25_nextEntry D h a0 = some (q, g)) : aM l D yJ25_nextEntry cJ25_nextEntry 2 (some (.object "java/util/TreeMap$Entry")) 1 22 [va_rf a0] h (.inr (some (va_rf q)), g) :=
  aM.ofX [(false, va_rf a0)] rfl (ap_r ap_0) (by decide +kernel) hst (al_of (aw_r aw_0) (by decide)) fun p e s m args below meth c X => V.sub (lv' := [(0, false, va_rf a0)]) [0] rfl (vJ25_nextEntry X hf)
def fJ28_next (D : aD) (h : aH) (a0 : Option Nat) : Option (Option Nat × aH) :=
  (aIs h 20 a0).bind fun _ =>
  bnd2 (fJ25_nextEntry D h a0) fun x2 h3 =>
  (gR h3 17 1 x2).bind fun x4 =>
  some (x4, h3)
theorem vJ28_next {h : aH} {a0 : Option Nat} {q : Option Nat} {g : aH} (X : aX p l R s m meth c D n0 s0 yJ28_next cJ28_next 2 43 1 (some (.object "java/lang/Object")) h0) (hf : fJ28_next D h a0 = some (q, g)) : V p l e R s m args below meth c D n0 s0 (aEnd D below args s h0 (.inr (some (va_rf q)), g)) h 0 [(0, false, va_rf a0)] [] := by
  have C := X.1
  unfold fJ28_next at hf
  refine v_aload_n (pc := 0) (j := 0) C dJ28_next_0 rfl rfl ?_
  obtain ⟨b1, eb1, hf⟩ := oB hf
  obtain ⟨rb1, _, kb1⟩ := aIs_eq eb1
  obtain ⟨x2, h3, ex2, hf⟩ := bnd2_eq hf
  refine v_call (pc := 1) (d_U (pc := 1) C (As := []) (rest := []) rb1 kb1 nt_20 q1176 q1177 (fun _ hT => va_Decl_of fun _ => gN q1156 rfl hT) ⟨by decide +kernel, by decide +kernel⟩ q1178 q1158 (by decide +kernel) yk_J25_nextEntry rfl (by decide) (by decide) (Nat.le_trans aw_0 (by decide)) rfl (mJ25_nextEntry C.st ex2) dJ28_next_1) ?_
  obtain ⟨x4, ex4, hf⟩ := oB hf
  refine v_getF (pc := 4) C lk_J28_13 (gR_eq ex4) dJ28_next_4 ?_
  cases hf
  exact v_areturn (pc := 7) C X.2.1 X.2.2.1 X.2.2.2.1 (Or.inl ⟨_, rfl⟩) rfl dJ28_next_7
theorem mJ28_next {l : Launch} {D : aD} {h : aH} {a0 : Option Nat} {q : Option Nat} {g : aH} (hst : l.stackTraces = false) (hf : fJ28_next D h a0 = some (q, g)) : aM l D yJ28_next cJ28_next 1 (some (.object "java/lang/Object")) 2 43 [va_rf a0] h (.inr (some (va_rf q)), g) :=
  aM.ofX [(false, va_rf a0)] rfl (ap_r ap_0) (by decide +kernel) hst (al_of (aw_r aw_0) (by decide)) fun p e s m args below meth c X => V.sub (lv' := [(0, false, va_rf a0)]) [0] rfl (vJ28_next X hf)
def fX8_isOf (D : aD) (h : aH) (a0 : Option Nat) (a1 : Option Nat) : Option (Int32) :=
  (gR h 7 2 a0).bind fun x1 =>
  (gR h 4 1 x1).bind fun x2 =>
  if x2 = a1 then
  (some (1 : Int32))
  else
  (some (0 : Int32))
theorem vX8_isOf {h : aH} {a0 : Option Nat} {a1 : Option Nat} {q : Int32} (X : aX p l R s m meth c D n0 s0 yX8_isOf cX8_isOf 0 0 2 (some .boolean) h0) (hf : fX8_isOf D h a0 a1 = some q) : V p l e R s m args below meth c D n0 s0 (aEnd D below args s h0 (.inr (some (.int q)), h)) h 0 [(0, false, va_rf a0), (1, false, va_rf a1)] [] := by
  have C := X.1
  unfold fX8_isOf at hf
  refine v_aload_n (pc := 0) (j := 0) C dX8_isOf_0 rfl rfl ?_
  obtain ⟨x1, ex1, hf⟩ := oB hf
  refine v_getF (pc := 1) C lk_X8_25 (gR_eq ex1) dX8_isOf_1 ?_
  obtain ⟨x2, ex2, hf⟩ := oB hf
  refine v_getF (pc := 4) C lk_X8_38 (gR_eq ex2) dX8_isOf_4 ?_
  refine v_aload_n (pc := 7) (j := 1) C dX8_isOf_7 rfl rfl ?_
  refine v_acmp_ne (pc := 8) (tgt := 15) C dX8_isOf_8 rfl (fun hc => ?_) (fun hc => ?_)
  · rw [if_neg hc] at hf
    refine v_iconst (pc := 15) (v := (0 : Int32)) C dX8_isOf_15 rfl ?_
    cases hf
    exact v_zreturn (pc := 16) C X.2.1 X.2.2.1 X.2.2.2.1 (by decide) rfl dX8_isOf_16
  · rw [if_pos (Decidable.of_not_not hc)] at hf
    refine v_iconst (pc := 11) (v := (1 : Int32)) C dX8_isOf_11 rfl ?_
    refine v_goto (pc := 12) (tgt := 16) C dX8_isOf_12 rfl ?_
    cases hf
    exact v_zreturn (pc := 16) C X.2.1 X.2.2.1 X.2.2.2.1 (by decide) rfl dX8_isOf_16
theorem mX8_isOf {l : Launch} {D : aD} {h : aH} {a0 : Option Nat} {a1 : Option Nat} {q : Int32} (hst : l.stackTraces = false) (hf : fX8_isOf D h a0 a1 = some q) : aM l D yX8_isOf cX8_isOf 2 (some .boolean) 0 0 [va_rf a0, va_rf a1] h (.inr (some (.int q)), h) :=
  aM.ofX [(false, va_rf a0), (false, va_rf a1)] rfl (ap_r (ap_r ap_0)) (by decide +kernel) hst (al_of (aw_r (aw_r aw_0)) (by decide)) fun p e s m args below meth c X => V.sub (lv' := [(0, false, va_rf a0), (1, false, va_rf a1)]) [0, 1] rfl (vX8_isOf X hf)
def fJ40_equals (D : aD) (h : aH) (a0 : Option Nat) (a1 : Option Nat) : Option (Int32) :=
  if a0 = a1 then
  (some (1 : Int32))
  else
  (some (0 : Int32))
theorem vJ40_equals {h : aH} {a0 : Option Nat} {a1 : Option Nat} {q : Int32} (X : aX p l R s m meth c D n0 s0 yJ40_equals cJ40_equals 0 0 2 (some .boolean) h0) (hf : fJ40_equals D h a0 a1 = some q) : V p l e R s m args below meth c D n0 s0 (aEnd D below args s h0 (.inr (some (.int q)), h)) h 0 [(0, false, va_rf a0), (1, false, va_rf a1)] [] := by
  have C := X.1
  unfold fJ40_equals at hf
  refine v_aload_n (pc := 0) (j := 0) C dJ40_equals_0 rfl rfl ?_
  refine v_aload_n (pc := 1) (j := 1) C dJ40_equals_1 rfl rfl ?_
  refine v_acmp_ne (pc := 2) (tgt := 9) C dJ40_equals_2 rfl (fun hc => ?_) (fun hc => ?_)
  · rw [if_neg hc] at hf
    refine v_iconst (pc := 9) (v := (0 : Int32)) C dJ40_equals_9 rfl ?_
    cases hf
    exact v_zreturn (pc := 10) C X.2.1 X.2.2.1 X.2.2.2.1 (by decide) rfl dJ40_equals_10
  · rw [if_pos (Decidable.of_not_not hc)] at hf
    refine v_iconst (pc := 5) (v := (1 : Int32)) C dJ40_equals_5 rfl ?_
    refine v_goto (pc := 6) (tgt := 10) C dJ40_equals_6 rfl ?_
    cases hf
    exact v_zreturn (pc := 10) C X.2.1 X.2.2.1 X.2.2.2.1 (by decide) rfl dJ40_equals_10
theorem mJ40_equals {l : Launch} {D : aD} {h : aH} {a0 : Option Nat} {a1 : Option Nat} {q : Int32} (hst : l.stackTraces = false) (hf : fJ40_equals D h a0 a1 = some q) : aM l D yJ40_equals cJ40_equals 2 (some .boolean) 0 0 [va_rf a0, va_rf a1] h (.inr (some (.int q)), h) :=
  aM.ofX [(false, va_rf a0), (false, va_rf a1)] rfl (ap_r (ap_r ap_0)) (by decide +kernel) hst (al_of (aw_r (aw_r aw_0)) (by decide)) fun p e s m args below meth c X => V.sub (lv' := [(0, false, va_rf a0), (1, false, va_rf a1)]) [0, 1] rfl (vJ40_equals X hf)
def fd_Object_equals_3_4_7 (D : aD) (h : aH) (r : Option Nat) (b0 : Option Nat) : Option (Int32) := (aTag h r).bind fun t => if t = 3 then fJ40_equals D h r b0 else if t = 4 then fJ40_equals D h r b0 else if t = 7 then fJ40_equals D h r b0 else none
theorem dd_Object_equals_3_4_7 {own : String} {cc : ByteArray} {rf rl nL : Nat} {h : aH} {pc index : Nat} {st rest : List Value} {r : Option Nat} {b0 : Option Nat} {q : Int32} (C : aC p l R s m meth c D n0 s0 own cc rf rl nL) (hl : Cond.methodLink own index ⟨"java/lang/Object", "equals", "(Ljava/lang/Object;)Z"⟩ ∈ lw_all) (h9 : 1 ≤ rf) (h8 : 21 ≤ rl) (hw : (rest.map fun v => v.category).sum ≤ 8) (hst : [va_rf b0] ++ va_rf r :: rest = st) (hf : fd_Object_equals_3_4_7 D h r b0 = some q) (d : decode cc pc = .ok (.invokevirtual index, 3)) : aD9 p l e R s m args below meth c D n0 s0 h (.inr (some (.int q)), h) pc st rest [va_rf r, va_rf b0].toArray 3 := by
  unfold fd_Object_equals_3_4_7 at hf
  obtain ⟨t, et, hf⟩ := oB hf
  obtain ⟨b, fs, hr, hb⟩ := aTag_eq et
  by_cases ht : t = 3
  · subst ht
    rw [if_pos rfl] at hf
    exact d_U C (As := [va_rf b0]) (rest := rest) hr hb nt_3 hl q1203 (fun _ hT => va_Decl_of fun _ => gN q1200 rfl hT) ⟨by decide +kernel, by decide +kernel⟩ q1216 q1202 (by decide +kernel) yk_J40_equals rfl (Nat.le_trans (by decide) h9) (Nat.le_trans (by decide) h8) hw hst (mJ40_equals C.st hf) d
  rw [if_neg ht] at hf
  by_cases ht : t = 4
  · subst ht
    rw [if_pos rfl] at hf
    exact d_U C (As := [va_rf b0]) (rest := rest) hr hb nt_4 hl q1203 (fun _ hT => va_Decl_of fun _ => gN q1200 rfl hT) ⟨by decide +kernel, by decide +kernel⟩ q1208 q1202 (by decide +kernel) yk_J40_equals rfl (Nat.le_trans (by decide) h9) (Nat.le_trans (by decide) h8) hw hst (mJ40_equals C.st hf) d
  rw [if_neg ht] at hf
  by_cases ht : t = 7
  · subst ht
    rw [if_pos rfl] at hf
    exact d_U C (As := [va_rf b0]) (rest := rest) hr hb nt_7 hl q1203 (fun _ hT => va_Decl_of fun _ => gN q1200 rfl hT) ⟨by decide +kernel, by decide +kernel⟩ q1209 q1202 (by decide +kernel) yk_J40_equals rfl (Nat.le_trans (by decide) h9) (Nat.le_trans (by decide) h8) hw hst (mJ40_equals C.st hf) d
  rw [if_neg ht] at hf
  cases hf
def fJ2_indexOfRange_p13 (D : aD) (h : aH) : Nat → Int32 → (Option Nat) → Int32 → Option (Int32)
  | 0, _, _, _ => none
  | n + 1, a3, a4, a5 =>
  if a3 ≤ a5 then
  (some (-1 : Int32))
  else
  ((eR h a4 a5).bind fun x1 =>
  if x1 = none then
  (some a5)
  else
  (fJ2_indexOfRange_p13 D h n a3 a4 (a5 + 1)))
theorem vJ2_indexOfRange_p13 {h : aH} (X : aX p l R s m meth c D n0 s0 yJ2_indexOfRange cJ2_indexOfRange 1 21 6 (some .int) h0) : ∀ (n : Nat) (a3 : Int32) (a4 : Option Nat) (a5 : Int32) (q : Int32), fJ2_indexOfRange_p13 D h n a3 a4 a5 = some q → V p l e R s m args below meth c D n0 s0 (aEnd D below args s h0 (.inr (some (.int q)), h)) h 13 [(3, false, .int a3), (4, false, va_rf a4), (5, false, .int a5)] [] := by
  have C := X.1
  intro n
  induction n with
  | zero =>
    intro _ _ _ _ hf
    rw [fJ2_indexOfRange_p13] at hf
    cases hf
  | succ n ih =>
    intro a3 a4 a5 q hf
    rw [fJ2_indexOfRange_p13] at hf
    refine v_iload (pc := 13) (j := 2) C dJ2_indexOfRange_13 rfl ?_
    refine v_iload_n (pc := 15) (j := 0) C dJ2_indexOfRange_15 rfl rfl ?_
    refine v_icmp_ge (pc := 16) (tgt := 36) C dJ2_indexOfRange_16 rfl (fun hc => ?_) (fun hc => ?_)
    · rw [if_pos hc] at hf
      refine v_goto (pc := 36) (tgt := 69) C dJ2_indexOfRange_36 rfl ?_
      refine v_iconst (pc := 69) (v := (-1 : Int32)) C dJ2_indexOfRange_69 rfl ?_
      cases hf
      exact v_ireturn (pc := 70) C X.2.1 X.2.2.1 X.2.2.2.1 rfl dJ2_indexOfRange_70
    · rw [if_neg hc] at hf
      refine v_aload (pc := 19) (j := 1) C dJ2_indexOfRange_19 rfl ?_
      refine v_iload (pc := 21) (j := 2) C dJ2_indexOfRange_21 rfl ?_
      obtain ⟨x1, ex1, hf⟩ := oB hf
      refine v_aaload (pc := 23) C ex1 dJ2_indexOfRange_23 ?_
      refine v_ifnonnull (pc := 24) (tgt := 30) C dJ2_indexOfRange_24 rfl (fun hc => ?_) (fun hc => ?_)
      · rw [if_neg hc] at hf
        refine v_iinc (pc := 30) (j := 2) (v := (a5 + 1)) (lv' := [(5, false, .int (a5 + 1)), (3, false, .int a3), (4, false, va_rf a4)]) C dJ2_indexOfRange_30 rfl rfl (by decide) rfl ?_
        refine v_goto (pc := 33) (tgt := 13) C dJ2_indexOfRange_33 rfl ?_
        exact V.sub [1, 2, 0] rfl (ih _ _ _ _ hf)
      · rw [if_pos hc] at hf
        refine v_iload (pc := 27) (j := 2) C dJ2_indexOfRange_27 rfl ?_
        cases hf
        exact v_ireturn (pc := 29) C X.2.1 X.2.2.1 X.2.2.2.1 rfl dJ2_indexOfRange_29
def fJ2_indexOfRange_p42 (D : aD) (h : aH) : Nat → (Option Nat) → Int32 → (Option Nat) → Int32 → Option (Int32)
  | 0, _, _, _, _ => none
  | n + 1, a1, a3, a4, a5 =>
  if a3 ≤ a5 then
  (some (-1 : Int32))
  else
  ((eR h a4 a5).bind fun x1 =>
  (fd_Object_equals_3_4_7 D h a1 x1).bind fun x3 =>
  if x3 = 0 then
  (fJ2_indexOfRange_p42 D h n a1 a3 a4 (a5 + 1))
  else
  (some a5))
theorem vJ2_indexOfRange_p42 {h : aH} (X : aX p l R s m meth c D n0 s0 yJ2_indexOfRange cJ2_indexOfRange 1 21 6 (some .int) h0) : ∀ (n : Nat) (a1 : Option Nat) (a3 : Int32) (a4 : Option Nat) (a5 : Int32) (q : Int32), fJ2_indexOfRange_p42 D h n a1 a3 a4 a5 = some q → V p l e R s m args below meth c D n0 s0 (aEnd D below args s h0 (.inr (some (.int q)), h)) h 42 [(1, false, va_rf a1), (3, false, .int a3), (4, false, va_rf a4), (5, false, .int a5)] [] := by
  have C := X.1
  intro n
  induction n with
  | zero =>
    intro _ _ _ _ _ hf
    rw [fJ2_indexOfRange_p42] at hf
    cases hf
  | succ n ih =>
    intro a1 a3 a4 a5 q hf
    rw [fJ2_indexOfRange_p42] at hf
    refine v_iload (pc := 42) (j := 3) C dJ2_indexOfRange_42 rfl ?_
    refine v_iload_n (pc := 44) (j := 1) C dJ2_indexOfRange_44 rfl rfl ?_
    refine v_icmp_ge (pc := 45) (tgt := 69) C dJ2_indexOfRange_45 rfl (fun hc => ?_) (fun hc => ?_)
    · rw [if_pos hc] at hf
      refine v_iconst (pc := 69) (v := (-1 : Int32)) C dJ2_indexOfRange_69 rfl ?_
      cases hf
      exact v_ireturn (pc := 70) C X.2.1 X.2.2.1 X.2.2.2.1 rfl dJ2_indexOfRange_70
    · rw [if_neg hc] at hf
      refine v_aload_n (pc := 48) (j := 0) C dJ2_indexOfRange_48 rfl rfl ?_
      refine v_aload (pc := 49) (j := 2) C dJ2_indexOfRange_49 rfl ?_
      refine v_iload (pc := 51) (j := 3) C dJ2_indexOfRange_51 rfl ?_
      obtain ⟨x1, ex1, hf⟩ := oB hf
      refine v_aaload (pc := 53) C ex1 dJ2_indexOfRange_53 ?_
      obtain ⟨x3, ex3, hf⟩ := oB hf
      refine v_call (pc := 54) (dd_Object_equals_3_4_7 (pc := 54) C q1201 (by decide) (by decide) (Nat.le_trans aw_0 (by decide)) rfl ex3 dJ2_indexOfRange_54) ?_
      refine v_if_eq (pc := 57) (tgt := 63) C dJ2_indexOfRange_57 rfl (fun hc => ?_) (fun hc => ?_)
      · rw [if_pos hc] at hf
        refine v_iinc (pc := 63) (j := 3) (v := (a5 + 1)) (lv' := [(5, false, .int (a5 + 1)), (1, false, va_rf a1), (3, false, .int a3), (4, false, va_rf a4)]) C dJ2_indexOfRange_63 rfl rfl (by decide) rfl ?_
        refine v_goto (pc := 66) (tgt := 42) C dJ2_indexOfRange_66 rfl ?_
        exact V.sub [1, 2, 3, 0] rfl (ih _ _ _ _ _ hf)
      · rw [if_neg hc] at hf
        refine v_iload (pc := 60) (j := 3) C dJ2_indexOfRange_60 rfl ?_
        cases hf
        exact v_ireturn (pc := 62) C X.2.1 X.2.2.1 X.2.2.2.1 rfl dJ2_indexOfRange_62
def fJ2_indexOfRange (D : aD) (h : aH) (a0 : Option Nat) (a1 : Option Nat) (a2 : Int32) (a3 : Int32) : Option (Int32) :=
  (gR h 15 1 a0).bind fun x1 =>
  if a1 = none then
  (fJ2_indexOfRange_p13 D h FU a3 x1 a2)
  else
  (fJ2_indexOfRange_p42 D h FU a1 a3 x1 a2)
theorem vJ2_indexOfRange {h : aH} {a0 : Option Nat} {a1 : Option Nat} {a2 : Int32} {a3 : Int32} {q : Int32} (X : aX p l R s m meth c D n0 s0 yJ2_indexOfRange cJ2_indexOfRange 1 21 6 (some .int) h0) (hf : fJ2_indexOfRange D h a0 a1 a2 a3 = some q) : V p l e R s m args below meth c D n0 s0 (aEnd D below args s h0 (.inr (some (.int q)), h)) h 0 [(0, false, va_rf a0), (1, false, va_rf a1), (2, false, .int a2), (3, false, .int a3)] [] := by
  have C := X.1
  unfold fJ2_indexOfRange at hf
  refine v_aload_n (pc := 0) (j := 0) C dJ2_indexOfRange_0 rfl rfl ?_
  obtain ⟨x1, ex1, hf⟩ := oB hf
  refine v_getF (pc := 1) C lk_J2_9 (gR_eq ex1) dJ2_indexOfRange_1 ?_
  refine v_astore (pc := 4) (lv' := [(4, false, va_rf x1), (0, false, va_rf a0), (1, false, va_rf a1), (2, false, .int a2), (3, false, .int a3)]) C dJ2_indexOfRange_4 (by decide) rfl ?_
  refine v_aload_n (pc := 6) (j := 2) C dJ2_indexOfRange_6 rfl rfl ?_
  refine v_ifnonnull (pc := 7) (tgt := 39) C dJ2_indexOfRange_7 rfl (fun hc => ?_) (fun hc => ?_)
  · rw [if_neg hc] at hf
    refine v_iload_n (pc := 39) (j := 3) C dJ2_indexOfRange_39 rfl rfl ?_
    refine v_istore (pc := 40) (lv' := [(5, false, .int a2), (4, false, va_rf x1), (0, false, va_rf a0), (1, false, va_rf a1), (2, false, .int a2), (3, false, .int a3)]) C dJ2_indexOfRange_40 (by decide) rfl ?_
    exact V.sub [3, 5, 1, 0] rfl (vJ2_indexOfRange_p42 X _ _ _ _ _ _ hf)
  · rw [if_pos hc] at hf
    refine v_iload_n (pc := 10) (j := 3) C dJ2_indexOfRange_10 rfl rfl ?_
    refine v_istore (pc := 11) (lv' := [(5, false, .int a2), (4, false, va_rf x1), (0, false, va_rf a0), (1, false, va_rf a1), (2, false, .int a2), (3, false, .int a3)]) C dJ2_indexOfRange_11 (by decide) rfl ?_
    exact V.sub [5, 1, 0] rfl (vJ2_indexOfRange_p13 X _ _ _ _ _ hf)
theorem mJ2_indexOfRange {l : Launch} {D : aD} {h : aH} {a0 : Option Nat} {a1 : Option Nat} {a2 : Int32} {a3 : Int32} {q : Int32} (hst : l.stackTraces = false) (hf : fJ2_indexOfRange D h a0 a1 a2 a3 = some q) : aM l D yJ2_indexOfRange cJ2_indexOfRange 6 (some .int) 1 21 [va_rf a0, va_rf a1, .int a2, .int a3] h (.inr (some (.int q)), h) :=
  aM.ofX [(false, va_rf a0), (false, va_rf a1), (false, .int a2), (false, .int a3)] rfl (ap_r (ap_r (ap_c rfl (ap_c rfl ap_0)))) (by decide +kernel) hst (al_of (aw_r (aw_r (aw_i (aw_i aw_0)))) (by decide)) fun p e s m args below meth c X => V.sub (lv' := [(0, false, va_rf a0), (1, false, va_rf a1), (2, false, .int a2), (3, false, .int a3)]) [0, 1, 2, 3] rfl (vJ2_indexOfRange X hf)
def fJ2_indexOf (D : aD) (h : aH) (a0 : Option Nat) (a1 : Option Nat) : Option (Int32) :=
  (gI h 15 2 a0).bind fun x1 =>
  (aIs h 15 a0).bind fun _ =>
  (fJ2_indexOfRange D h a0 a1 (0 : Int32) x1).bind fun x3 =>
  some x3
theorem vJ2_indexOf {h : aH} {a0 : Option Nat} {a1 : Option Nat} {q : Int32} (X : aX p l R s m meth c D n0 s0 yJ2_indexOf cJ2_indexOf 2 46 2 (some .int) h0) (hf : fJ2_indexOf D h a0 a1 = some q) : V p l e R s m args below meth c D n0 s0 (aEnd D below args s h0 (.inr (some (.int q)), h)) h 0 [(0, false, va_rf a0), (1, false, va_rf a1)] [] := by
  have C := X.1
  unfold fJ2_indexOf at hf
  refine v_aload_n (pc := 0) (j := 0) C dJ2_indexOf_0 rfl rfl ?_
  refine v_aload_n (pc := 1) (j := 1) C dJ2_indexOf_1 rfl rfl ?_
  refine v_iconst (pc := 2) (v := (0 : Int32)) C dJ2_indexOf_2 rfl ?_
  refine v_aload_n (pc := 3) (j := 0) C dJ2_indexOf_3 rfl rfl ?_
  obtain ⟨x1, ex1, hf⟩ := oB hf
  refine v_getF (pc := 4) C lk_J2_48 (gI_eq ex1) dJ2_indexOf_4 ?_
  obtain ⟨b2, eb2, hf⟩ := oB hf
  obtain ⟨rb2, _, kb2⟩ := aIs_eq eb2
  obtain ⟨x3, ex3, hf⟩ := oB hf
  refine v_call (pc := 7) (d_V (pc := 7) C (As := [va_rf a1, .int (0 : Int32), .int x1]) (rest := []) rb2 kb2 nt_15 q1196 yi_J2_indexOfRange_java_util_ArrayList yk_J2_indexOfRange rfl (by decide) (by decide) (Nat.le_trans aw_0 (by decide)) rfl (mJ2_indexOfRange C.st ex3) dJ2_indexOf_7) ?_
  cases hf
  exact v_ireturn (pc := 10) C X.2.1 X.2.2.1 X.2.2.2.1 rfl dJ2_indexOf_10
theorem mJ2_indexOf {l : Launch} {D : aD} {h : aH} {a0 : Option Nat} {a1 : Option Nat} {q : Int32} (hst : l.stackTraces = false) (hf : fJ2_indexOf D h a0 a1 = some q) : aM l D yJ2_indexOf cJ2_indexOf 2 (some .int) 2 46 [va_rf a0, va_rf a1] h (.inr (some (.int q)), h) :=
  aM.ofX [(false, va_rf a0), (false, va_rf a1)] rfl (ap_r (ap_r ap_0)) (by decide +kernel) hst (al_of (aw_r (aw_r aw_0)) (by decide)) fun p e s m args below meth c X => V.sub (lv' := [(0, false, va_rf a0), (1, false, va_rf a1)]) [0, 1] rfl (vJ2_indexOf X hf)
def fX9_index (D : aD) (h : aH) (a0 : Option Nat) (a1 : Option Nat) : Option (Int32) :=
  (gR h 8 1 a0).bind fun x1 =>
  (aIs h 15 x1).bind fun _ =>
  (fJ2_indexOf D h x1 a1).bind fun x3 =>
  some x3
theorem vX9_index {h : aH} {a0 : Option Nat} {a1 : Option Nat} {q : Int32} (X : aX p l R s m meth c D n0 s0 yX9_index cX9_index 3 67 2 (some .int) h0) (hf : fX9_index D h a0 a1 = some q) : V p l e R s m args below meth c D n0 s0 (aEnd D below args s h0 (.inr (some (.int q)), h)) h 0 [(0, false, va_rf a0), (1, false, va_rf a1)] [] := by
  have C := X.1
  unfold fX9_index at hf
  refine v_aload_n (pc := 0) (j := 0) C dX9_index_0 rfl rfl ?_
  obtain ⟨x1, ex1, hf⟩ := oB hf
  refine v_getF (pc := 1) C lk_X9_18 (gR_eq ex1) dX9_index_1 ?_
  refine v_aload_n (pc := 4) (j := 1) C dX9_index_4 rfl rfl ?_
  obtain ⟨b2, eb2, hf⟩ := oB hf
  obtain ⟨rb2, _, kb2⟩ := aIs_eq eb2
  obtain ⟨x3, ex3, hf⟩ := oB hf
  refine v_call (pc := 5) (d_V (pc := 5) C (As := [va_rf a1]) (rest := []) rb2 kb2 nt_15 q1192 yi_J2_indexOf_java_util_ArrayList yk_J2_indexOf rfl (by decide) (by decide) (Nat.le_trans aw_0 (by decide)) rfl (mJ2_indexOf C.st ex3) dX9_index_5) ?_
  cases hf
  exact v_ireturn (pc := 8) C X.2.1 X.2.2.1 X.2.2.2.1 rfl dX9_index_8
theorem mX9_index {l : Launch} {D : aD} {h : aH} {a0 : Option Nat} {a1 : Option Nat} {q : Int32} (hst : l.stackTraces = false) (hf : fX9_index D h a0 a1 = some q) : aM l D yX9_index cX9_index 2 (some .int) 3 67 [va_rf a0, va_rf a1] h (.inr (some (.int q)), h) :=
  aM.ofX [(false, va_rf a0), (false, va_rf a1)] rfl (ap_r (ap_r ap_0)) (by decide +kernel) hst (al_of (aw_r (aw_r aw_0)) (by decide)) fun p e s m args below meth c X => V.sub (lv' := [(0, false, va_rf a0), (1, false, va_rf a1)]) [0, 1] rfl (vX9_index X hf)
def fX9_counts (D : aD) (h : aH) (a0 : Option Nat) (a1 : Option Nat) : Option (Int32) :=
  (gR h 8 0 a0).bind fun x1 =>
  (aIs h 7 a1).bind fun _ =>
  (fX8_isOf D h a1 x1).bind fun x3 =>
  if x3 = 0 then
  (some (0 : Int32))
  else
  ((gR h 7 2 a1).bind fun x5 =>
  (aIs h 8 a0).bind fun _ =>
  (fX9_index D h a0 x5).bind fun x7 =>
  if x7 < 0 then
  (some (0 : Int32))
  else
  ((gI h 7 1 a1).bind fun x9 =>
  if x9 = 0 then
  ((gR h 7 3 a1).bind fun x10 =>
  (aIs h 8 a0).bind fun _ =>
  (fX9_index D h a0 x10).bind fun x12 =>
  if x12 < 0 then
  (some (0 : Int32))
  else
  (some (1 : Int32)))
  else
  (some (1 : Int32))))
theorem vX9_counts {h : aH} {a0 : Option Nat} {a1 : Option Nat} {q : Int32} (X : aX p l R s m meth c D n0 s0 yX9_counts cX9_counts 4 88 2 (some .boolean) h0) (hf : fX9_counts D h a0 a1 = some q) : V p l e R s m args below meth c D n0 s0 (aEnd D below args s h0 (.inr (some (.int q)), h)) h 0 [(0, false, va_rf a0), (1, false, va_rf a1)] [] := by
  have C := X.1
  unfold fX9_counts at hf
  refine v_aload_n (pc := 0) (j := 1) C dX9_counts_0 rfl rfl ?_
  refine v_aload_n (pc := 1) (j := 0) C dX9_counts_1 rfl rfl ?_
  obtain ⟨x1, ex1, hf⟩ := oB hf
  refine v_getF (pc := 2) C lk_X9_28 (gR_eq ex1) dX9_counts_2 ?_
  obtain ⟨b2, eb2, hf⟩ := oB hf
  obtain ⟨rb2, _, kb2⟩ := aIs_eq eb2
  obtain ⟨x3, ex3, hf⟩ := oB hf
  refine v_call (pc := 5) (d_V (pc := 5) C (As := [va_rf x1]) (rest := []) rb2 kb2 nt_7 q1184 yi_X8_isOf_FigureSurvey_Finding yk_X8_isOf rfl (by decide) (by decide) (Nat.le_trans aw_0 (by decide)) rfl (mX8_isOf C.st ex3) dX9_counts_5) ?_
  refine v_if_eq (pc := 8) (tgt := 44) C dX9_counts_8 rfl (fun hc => ?_) (fun hc => ?_)
  · rw [if_pos hc] at hf
    refine v_iconst (pc := 44) (v := (0 : Int32)) C dX9_counts_44 rfl ?_
    cases hf
    exact v_zreturn (pc := 45) C X.2.1 X.2.2.1 X.2.2.2.1 (by decide) rfl dX9_counts_45
  · rw [if_neg hc] at hf
    refine v_aload_n (pc := 11) (j := 0) C dX9_counts_11 rfl rfl ?_
    refine v_aload_n (pc := 12) (j := 1) C dX9_counts_12 rfl rfl ?_
    obtain ⟨x5, ex5, hf⟩ := oB hf
    refine v_getF (pc := 13) C lk_X9_109 (gR_eq ex5) dX9_counts_13 ?_
    obtain ⟨b6, eb6, hf⟩ := oB hf
    obtain ⟨rb6, _, kb6⟩ := aIs_eq eb6
    obtain ⟨x7, ex7, hf⟩ := oB hf
    refine v_call (pc := 16) (d_V (pc := 16) C (As := [va_rf x5]) (rest := []) rb6 kb6 nt_8 q1188 yi_X9_index_FigureSurvey_Scene yk_X9_index rfl (by decide) (by decide) (Nat.le_trans aw_0 (by decide)) rfl (mX9_index C.st ex7) dX9_counts_16) ?_
    refine v_if_lt (pc := 19) (tgt := 44) C dX9_counts_19 rfl (fun hc => ?_) (fun hc => ?_)
    · rw [if_pos hc] at hf
      refine v_iconst (pc := 44) (v := (0 : Int32)) C dX9_counts_44 rfl ?_
      cases hf
      exact v_zreturn (pc := 45) C X.2.1 X.2.2.1 X.2.2.2.1 (by decide) rfl dX9_counts_45
    · rw [if_neg hc] at hf
      refine v_aload_n (pc := 22) (j := 1) C dX9_counts_22 rfl rfl ?_
      obtain ⟨x9, ex9, hf⟩ := oB hf
      refine v_getF (pc := 23) C lk_X9_85 (gI_eq ex9) dX9_counts_23 ?_
      refine v_if_ne (pc := 26) (tgt := 40) C dX9_counts_26 rfl (fun hc => ?_) (fun hc => ?_)
      · rw [if_neg hc] at hf
        refine v_iconst (pc := 40) (v := (1 : Int32)) C dX9_counts_40 rfl ?_
        refine v_goto (pc := 41) (tgt := 45) C dX9_counts_41 rfl ?_
        cases hf
        exact v_zreturn (pc := 45) C X.2.1 X.2.2.1 X.2.2.2.1 (by decide) rfl dX9_counts_45
      · rw [if_pos (Decidable.of_not_not hc)] at hf
        refine v_aload_n (pc := 29) (j := 0) C dX9_counts_29 rfl rfl ?_
        refine v_aload_n (pc := 30) (j := 1) C dX9_counts_30 rfl rfl ?_
        obtain ⟨x10, ex10, hf⟩ := oB hf
        refine v_getF (pc := 31) C lk_X9_117 (gR_eq ex10) dX9_counts_31 ?_
        obtain ⟨b11, eb11, hf⟩ := oB hf
        obtain ⟨rb11, _, kb11⟩ := aIs_eq eb11
        obtain ⟨x12, ex12, hf⟩ := oB hf
        refine v_call (pc := 34) (d_V (pc := 34) C (As := [va_rf x10]) (rest := []) rb11 kb11 nt_8 q1188 yi_X9_index_FigureSurvey_Scene yk_X9_index rfl (by decide) (by decide) (Nat.le_trans aw_0 (by decide)) rfl (mX9_index C.st ex12) dX9_counts_34) ?_
        refine v_if_lt (pc := 37) (tgt := 44) C dX9_counts_37 rfl (fun hc => ?_) (fun hc => ?_)
        · rw [if_pos hc] at hf
          refine v_iconst (pc := 44) (v := (0 : Int32)) C dX9_counts_44 rfl ?_
          cases hf
          exact v_zreturn (pc := 45) C X.2.1 X.2.2.1 X.2.2.2.1 (by decide) rfl dX9_counts_45
        · rw [if_neg hc] at hf
          refine v_iconst (pc := 40) (v := (1 : Int32)) C dX9_counts_40 rfl ?_
          refine v_goto (pc := 41) (tgt := 45) C dX9_counts_41 rfl ?_
          cases hf
          exact v_zreturn (pc := 45) C X.2.1 X.2.2.1 X.2.2.2.1 (by decide) rfl dX9_counts_45
theorem mX9_counts {l : Launch} {D : aD} {h : aH} {a0 : Option Nat} {a1 : Option Nat} {q : Int32} (hst : l.stackTraces = false) (hf : fX9_counts D h a0 a1 = some q) : aM l D yX9_counts cX9_counts 2 (some .boolean) 4 88 [va_rf a0, va_rf a1] h (.inr (some (.int q)), h) :=
  aM.ofX [(false, va_rf a0), (false, va_rf a1)] rfl (ap_r (ap_r ap_0)) (by decide +kernel) hst (al_of (aw_r (aw_r aw_0)) (by decide)) fun p e s m args below meth c X => V.sub (lv' := [(0, false, va_rf a0), (1, false, va_rf a1)]) [0, 1] rfl (vX9_counts X hf)
def fX9_price_p68 (D : aD) (h : aH) (K5 : (Option Nat) → Int32 → Int32 → Int32 → Int32 → Option (Int32)) (a0 : Option Nat) (a1 : Int32) (a2 : Int32) (a3 : Int32) (a4 : Int32) : Option (Int32) :=
  K5 a0 a1 a2 a3 (a4 + 1)
theorem vX9_price_p68 {h : aH} {K5 : (Option Nat) → Int32 → Int32 → Int32 → Int32 → Option (Int32)} {a0 : Option Nat} {a1 : Int32} {a2 : Int32} {a3 : Int32} {a4 : Int32} {q : Int32} (X : aX p l R s m meth c D n0 s0 yX9_price cX9_price 4 88 6 (some .int) h0) (k5 : ∀ (a0 : Option Nat) (a1 : Int32) (a2 : Int32) (a3 : Int32) (a4 : Int32) (q : Int32), K5 a0 a1 a2 a3 a4 = some q → V p l e R s m args below meth c D n0 s0 (aEnd D below args s h0 (.inr (some (.int q)), h)) h 5 [(0, false, va_rf a0), (1, false, .int a1), (2, false, .int a2), (3, false, .int a3), (4, false, .int a4)] []) (hf : fX9_price_p68 D h K5 a0 a1 a2 a3 a4 = some q) : V p l e R s m args below meth c D n0 s0 (aEnd D below args s h0 (.inr (some (.int q)), h)) h 68 [(0, false, va_rf a0), (1, false, .int a1), (2, false, .int a2), (3, false, .int a3), (4, false, .int a4)] [] := by
  have C := X.1
  unfold fX9_price_p68 at hf
  refine v_iinc (pc := 68) (j := 4) (v := (a4 + 1)) (lv' := [(4, false, .int (a4 + 1)), (0, false, va_rf a0), (1, false, .int a1), (2, false, .int a2), (3, false, .int a3)]) C dX9_price_68 rfl rfl (by decide) rfl ?_
  refine v_goto (pc := 71) (tgt := 5) C dX9_price_71 rfl ?_
  exact V.sub [1, 2, 3, 4, 0] rfl (k5 _ _ _ _ _ _ hf)
def fX9_price_p5 (D : aD) (h : aH) : Nat → (Option Nat) → Int32 → Int32 → Int32 → Int32 → Option (Int32)
  | 0, _, _, _, _, _ => none
  | n + 1, a0, a1, a2, a3, a4 =>
  (gR h 8 2 a0).bind fun x1 =>
  (aIs h 15 x1).bind fun _ =>
  (fJ2_size D h x1).bind fun x3 =>
  if x3 ≤ a4 then
  (some a3)
  else
  ((gR h 8 2 a0).bind fun x5 =>
  (aIs h 15 x5).bind fun _ =>
  (fJ2_get D h x5 a4).bind fun x7 =>
  (aCast h [7] x7).bind fun _ =>
  (gR h 7 3 x7).bind fun x10 =>
  (aIs h 8 a0).bind fun _ =>
  (fX9_index D h a0 x10).bind fun x12 =>
  if x12 = a2 then
  ((gR h 7 2 x7).bind fun x14 =>
  (aIs h 8 a0).bind fun _ =>
  (fX9_index D h a0 x14).bind fun x16 =>
  (fX1_has_2 D h a1 x16).bind fun x19 =>
  if x19 = 0 then
  (fX9_price_p68 D h (fX9_price_p5 D h n) a0 a1 a2 a3 a4)
  else
  ((gI h 7 5 x7).bind fun x21 =>
  (some ((a3 + x21))).bind fun x22 =>
  fX9_price_p68 D h (fX9_price_p5 D h n) a0 a1 a2 x22 a4))
  else
  (fX9_price_p68 D h (fX9_price_p5 D h n) a0 a1 a2 a3 a4))
theorem vX9_price_p5 {h : aH} (X : aX p l R s m meth c D n0 s0 yX9_price cX9_price 4 88 6 (some .int) h0) : ∀ (n : Nat) (a0 : Option Nat) (a1 : Int32) (a2 : Int32) (a3 : Int32) (a4 : Int32) (q : Int32), fX9_price_p5 D h n a0 a1 a2 a3 a4 = some q → V p l e R s m args below meth c D n0 s0 (aEnd D below args s h0 (.inr (some (.int q)), h)) h 5 [(0, false, va_rf a0), (1, false, .int a1), (2, false, .int a2), (3, false, .int a3), (4, false, .int a4)] [] := by
  have C := X.1
  intro n
  induction n with
  | zero =>
    intro _ _ _ _ _ _ hf
    rw [fX9_price_p5] at hf
    cases hf
  | succ n ih =>
    intro a0 a1 a2 a3 a4 q hf
    rw [fX9_price_p5] at hf
    refine v_iload (pc := 5) (j := 4) C dX9_price_5 rfl ?_
    refine v_aload_n (pc := 7) (j := 0) C dX9_price_7 rfl rfl ?_
    obtain ⟨x1, ex1, hf⟩ := oB hf
    refine v_getF (pc := 8) C lk_X9_22 (gR_eq ex1) dX9_price_8 ?_
    obtain ⟨b2, eb2, hf⟩ := oB hf
    obtain ⟨rb2, _, kb2⟩ := aIs_eq eb2
    obtain ⟨x3, ex3, hf⟩ := oB hf
    refine v_call (pc := 11) (d_V (pc := 11) C (As := []) (rest := [.int a4]) rb2 kb2 nt_15 q870 yi_J2_size_java_util_ArrayList yk_J2_size rfl (by decide) (by decide) (Nat.le_trans (aw_i aw_0) (by decide)) rfl (mJ2_size C.st ex3) dX9_price_11) ?_
    refine v_icmp_ge (pc := 14) (tgt := 74) C dX9_price_14 rfl (fun hc => ?_) (fun hc => ?_)
    · rw [if_pos hc] at hf
      refine v_iload_n (pc := 74) (j := 3) C dX9_price_74 rfl rfl ?_
      cases hf
      exact v_ireturn (pc := 75) C X.2.1 X.2.2.1 X.2.2.2.1 rfl dX9_price_75
    · rw [if_neg hc] at hf
      refine v_aload_n (pc := 17) (j := 0) C dX9_price_17 rfl rfl ?_
      obtain ⟨x5, ex5, hf⟩ := oB hf
      refine v_getF (pc := 18) C lk_X9_22 (gR_eq ex5) dX9_price_18 ?_
      refine v_iload (pc := 21) (j := 4) C dX9_price_21 rfl ?_
      obtain ⟨b6, eb6, hf⟩ := oB hf
      obtain ⟨rb6, _, kb6⟩ := aIs_eq eb6
      obtain ⟨x7, ex7, hf⟩ := oB hf
      refine v_call (pc := 23) (d_V (pc := 23) C (As := [.int a4]) (rest := []) rb6 kb6 nt_15 q871 yi_J2_get_java_util_ArrayList yk_J2_get rfl (by decide) (by decide) (Nat.le_trans aw_0 (by decide)) rfl (mJ2_get C.st ex7) dX9_price_23) ?_
      obtain ⟨_, e9, hf⟩ := oB hf
      refine v_cast (pc := 26) C q1179 ct_FigureSurvey_Finding e9 dX9_price_26 ?_
      refine v_astore (pc := 29) (lv' := [(5, false, va_rf x7), (0, false, va_rf a0), (1, false, .int a1), (2, false, .int a2), (3, false, .int a3), (4, false, .int a4)]) C dX9_price_29 (by decide) rfl ?_
      refine v_aload_n (pc := 31) (j := 1) C dX9_price_31 rfl rfl ?_
      refine v_aload (pc := 32) (j := 0) C dX9_price_32 rfl ?_
      obtain ⟨x10, ex10, hf⟩ := oB hf
      refine v_getF (pc := 34) C lk_X9_117 (gR_eq ex10) dX9_price_34 ?_
      obtain ⟨b11, eb11, hf⟩ := oB hf
      obtain ⟨rb11, _, kb11⟩ := aIs_eq eb11
      obtain ⟨x12, ex12, hf⟩ := oB hf
      refine v_call (pc := 37) (d_V (pc := 37) C (As := [va_rf x10]) (rest := []) rb11 kb11 nt_8 q1188 yi_X9_index_FigureSurvey_Scene yk_X9_index rfl (by decide) (by decide) (Nat.le_trans aw_0 (by decide)) rfl (mX9_index C.st ex12) dX9_price_37) ?_
      refine v_iload_n (pc := 40) (j := 3) C dX9_price_40 rfl rfl ?_
      refine v_icmp_ne (pc := 41) (tgt := 68) C dX9_price_41 rfl (fun hc => ?_) (fun hc => ?_)
      · rw [if_neg hc] at hf
        exact V.sub [1, 2, 3, 4, 5] rfl (vX9_price_p68 X ih hf)
      · rw [if_pos (Decidable.of_not_not hc)] at hf
        refine v_iload_n (pc := 44) (j := 2) C dX9_price_44 rfl rfl ?_
        refine v_aload_n (pc := 45) (j := 1) C dX9_price_45 rfl rfl ?_
        refine v_aload (pc := 46) (j := 0) C dX9_price_46 rfl ?_
        obtain ⟨x14, ex14, hf⟩ := oB hf
        refine v_getF (pc := 48) C lk_X9_109 (gR_eq ex14) dX9_price_48 ?_
        obtain ⟨b15, eb15, hf⟩ := oB hf
        obtain ⟨rb15, _, kb15⟩ := aIs_eq eb15
        obtain ⟨x16, ex16, hf⟩ := oB hf
        refine v_call (pc := 51) (d_V (pc := 51) C (As := [va_rf x14]) (rest := [.int a1]) rb15 kb15 nt_8 q1188 yi_X9_index_FigureSurvey_Scene yk_X9_index rfl (by decide) (by decide) (Nat.le_trans (aw_i aw_0) (by decide)) rfl (mX9_index C.st ex16) dX9_price_51) ?_
        obtain ⟨x19, ex19, hf⟩ := oB hf
        refine v_call (pc := 54) (d_SN (pc := 54) C (As := [.int a1, .int x16]) (rest := []) q1243 q1244 yk_X1_has_2 rfl (by decide) (by decide) (Nat.le_trans aw_0 (by decide)) rfl (mX1_has_2 C.st ex19) dX9_price_54) ?_
        refine v_if_eq (pc := 57) (tgt := 68) C dX9_price_57 rfl (fun hc => ?_) (fun hc => ?_)
        · rw [if_pos hc] at hf
          exact V.sub [1, 2, 3, 4, 5] rfl (vX9_price_p68 X ih hf)
        · rw [if_neg hc] at hf
          refine v_iload_n (pc := 60) (j := 4) C dX9_price_60 rfl rfl ?_
          refine v_aload (pc := 61) (j := 0) C dX9_price_61 rfl ?_
          obtain ⟨x21, ex21, hf⟩ := oB hf
          refine v_getF (pc := 63) C lk_X9_145 (gI_eq ex21) dX9_price_63 ?_
          refine v_iadd (pc := 66) C dX9_price_66 ?_
          obtain ⟨x22, ex22, hf⟩ := oB hf
          refine vst (Option.some.inj ex22) (fun z => .int z :: []) ?_
          refine v_istore_n (pc := 67) (lv' := [(3, false, .int x22), (5, false, va_rf x7), (0, false, va_rf a0), (1, false, .int a1), (2, false, .int a2), (4, false, .int a4)]) C dX9_price_67 rfl (by decide) rfl ?_
          exact V.sub [2, 3, 4, 0, 5] rfl (vX9_price_p68 X ih hf)
def fX9_price (D : aD) (h : aH) (a0 : Option Nat) (a1 : Int32) (a2 : Int32) : Option (Int32) :=
  fX9_price_p5 D h FU a0 a1 a2 (0 : Int32) (0 : Int32)
theorem vX9_price {h : aH} {a0 : Option Nat} {a1 : Int32} {a2 : Int32} {q : Int32} (X : aX p l R s m meth c D n0 s0 yX9_price cX9_price 4 88 6 (some .int) h0) (hf : fX9_price D h a0 a1 a2 = some q) : V p l e R s m args below meth c D n0 s0 (aEnd D below args s h0 (.inr (some (.int q)), h)) h 0 [(0, false, va_rf a0), (1, false, .int a1), (2, false, .int a2)] [] := by
  have C := X.1
  unfold fX9_price at hf
  refine v_iconst (pc := 0) (v := (0 : Int32)) C dX9_price_0 rfl ?_
  refine v_istore_n (pc := 1) (lv' := [(3, false, .int (0 : Int32)), (0, false, va_rf a0), (1, false, .int a1), (2, false, .int a2)]) C dX9_price_1 rfl (by decide) rfl ?_
  refine v_iconst (pc := 2) (v := (0 : Int32)) C dX9_price_2 rfl ?_
  refine v_istore (pc := 3) (lv' := [(4, false, .int (0 : Int32)), (3, false, .int (0 : Int32)), (0, false, va_rf a0), (1, false, .int a1), (2, false, .int a2)]) C dX9_price_3 (by decide) rfl ?_
  exact V.sub [2, 3, 4, 1, 0] rfl (vX9_price_p5 X _ _ _ _ _ _ _ hf)
theorem mX9_price {l : Launch} {D : aD} {h : aH} {a0 : Option Nat} {a1 : Int32} {a2 : Int32} {q : Int32} (hst : l.stackTraces = false) (hf : fX9_price D h a0 a1 a2 = some q) : aM l D yX9_price cX9_price 6 (some .int) 4 88 [va_rf a0, .int a1, .int a2] h (.inr (some (.int q)), h) :=
  aM.ofX [(false, va_rf a0), (false, .int a1), (false, .int a2)] rfl (ap_r (ap_c rfl (ap_c rfl ap_0))) (by decide +kernel) hst (al_of (aw_r (aw_i (aw_i aw_0))) (by decide)) fun p e s m args below meth c X => V.sub (lv' := [(0, false, va_rf a0), (1, false, .int a1), (2, false, .int a2)]) [0, 1, 2] rfl (vX9_price X hf)
def fX9_place_p2 (D : aD) (h : aH) : Nat → (Option Nat) → Int32 → Int32 → Option (Int32)
  | 0, _, _, _ => none
  | n + 1, a0, a1, a2 =>
  (gR h 8 4 a0).bind fun x1 =>
  (eI h x1 a2).bind fun x2 =>
  if x2 = a1 then
  (some a2)
  else
  (fX9_place_p2 D h n a0 a1 (a2 + 1))
theorem vX9_place_p2 {h : aH} (X : aX p l R s m meth c D n0 s0 yX9_place cX9_place 0 0 3 (some .int) h0) : ∀ (n : Nat) (a0 : Option Nat) (a1 : Int32) (a2 : Int32) (q : Int32), fX9_place_p2 D h n a0 a1 a2 = some q → V p l e R s m args below meth c D n0 s0 (aEnd D below args s h0 (.inr (some (.int q)), h)) h 2 [(0, false, va_rf a0), (1, false, .int a1), (2, false, .int a2)] [] := by
  have C := X.1
  intro n
  induction n with
  | zero =>
    intro _ _ _ _ hf
    rw [fX9_place_p2] at hf
    cases hf
  | succ n ih =>
    intro a0 a1 a2 q hf
    rw [fX9_place_p2] at hf
    refine v_aload_n (pc := 2) (j := 0) C dX9_place_2 rfl rfl ?_
    obtain ⟨x1, ex1, hf⟩ := oB hf
    refine v_getF (pc := 3) C lk_X9_97 (gR_eq ex1) dX9_place_3 ?_
    refine v_iload_n (pc := 6) (j := 2) C dX9_place_6 rfl rfl ?_
    obtain ⟨x2, ex2, hf⟩ := oB hf
    refine v_iaload (pc := 7) C ex2 dX9_place_7 ?_
    refine v_iload_n (pc := 8) (j := 1) C dX9_place_8 rfl rfl ?_
    refine v_icmp_eq (pc := 9) (tgt := 18) C dX9_place_9 rfl (fun hc => ?_) (fun hc => ?_)
    · rw [if_pos hc] at hf
      refine v_iload_n (pc := 18) (j := 2) C dX9_place_18 rfl rfl ?_
      cases hf
      exact v_ireturn (pc := 19) C X.2.1 X.2.2.1 X.2.2.2.1 rfl dX9_place_19
    · rw [if_neg hc] at hf
      refine v_iinc (pc := 12) (j := 2) (v := (a2 + 1)) (lv' := [(2, false, .int (a2 + 1)), (0, false, va_rf a0), (1, false, .int a1)]) C dX9_place_12 rfl rfl (by decide) rfl ?_
      refine v_goto (pc := 15) (tgt := 2) C dX9_place_15 rfl ?_
      exact V.sub [1, 2, 0] rfl (ih _ _ _ _ hf)
def fX9_place (D : aD) (h : aH) (a0 : Option Nat) (a1 : Int32) : Option (Int32) :=
  fX9_place_p2 D h FU a0 a1 (0 : Int32)
theorem vX9_place {h : aH} {a0 : Option Nat} {a1 : Int32} {q : Int32} (X : aX p l R s m meth c D n0 s0 yX9_place cX9_place 0 0 3 (some .int) h0) (hf : fX9_place D h a0 a1 = some q) : V p l e R s m args below meth c D n0 s0 (aEnd D below args s h0 (.inr (some (.int q)), h)) h 0 [(0, false, va_rf a0), (1, false, .int a1)] [] := by
  have C := X.1
  unfold fX9_place at hf
  refine v_iconst (pc := 0) (v := (0 : Int32)) C dX9_place_0 rfl ?_
  refine v_istore_n (pc := 1) (lv' := [(2, false, .int (0 : Int32)), (0, false, va_rf a0), (1, false, .int a1)]) C dX9_place_1 rfl (by decide) rfl ?_
  exact V.sub [1, 2, 0] rfl (vX9_place_p2 X _ _ _ _ _ hf)
theorem mX9_place {l : Launch} {D : aD} {h : aH} {a0 : Option Nat} {a1 : Int32} {q : Int32} (hst : l.stackTraces = false) (hf : fX9_place D h a0 a1 = some q) : aM l D yX9_place cX9_place 3 (some .int) 0 0 [va_rf a0, .int a1] h (.inr (some (.int q)), h) :=
  aM.ofX [(false, va_rf a0), (false, .int a1)] rfl (ap_r (ap_c rfl ap_0)) (by decide +kernel) hst (al_of (aw_r (aw_i aw_0)) (by decide)) fun p e s m args below meth c X => V.sub (lv' := [(0, false, va_rf a0), (1, false, .int a1)]) [0, 1] rfl (vX9_place X hf)
def fX9_isBroken (D : aD) (h : aH) (a0 : Option Nat) (a1 : Option Nat) : Option (Int32) :=
  (gI h 7 1 a1).bind fun x1 =>
  if x1 = 0 then
  ((gR h 7 2 a1).bind fun x11 =>
  (aIs h 8 a0).bind fun _ =>
  (fX9_index D h a0 x11).bind fun x13 =>
  (aIs h 8 a0).bind fun _ =>
  (fX9_place D h a0 x13).bind fun x16 =>
  (gR h 7 3 a1).bind fun x18 =>
  (aIs h 8 a0).bind fun _ =>
  (fX9_index D h a0 x18).bind fun x20 =>
  (aIs h 8 a0).bind fun _ =>
  (fX9_place D h a0 x20).bind fun x23 =>
  if x23 ≤ x16 then
  (some (0 : Int32))
  else
  (some (1 : Int32)))
  else
  ((gI h 8 6 a0).bind fun x2 =>
  (gR h 8 3 a0).bind fun x3 =>
  (aIs h 15 x3).bind fun _ =>
  (fJ2_indexOf D h x3 a1).bind fun x5 =>
  (fX1_has_2 D h x2 x5).bind fun x8 =>
  (ckZ x8).bind fun _ =>
  some x8)
theorem vX9_isBroken {h : aH} {a0 : Option Nat} {a1 : Option Nat} {q : Int32} (X : aX p l R s m meth c D n0 s0 yX9_isBroken cX9_isBroken 4 88 2 (some .boolean) h0) (hf : fX9_isBroken D h a0 a1 = some q) : V p l e R s m args below meth c D n0 s0 (aEnd D below args s h0 (.inr (some (.int q)), h)) h 0 [(0, false, va_rf a0), (1, false, va_rf a1)] [] := by
  have C := X.1
  unfold fX9_isBroken at hf
  refine v_aload_n (pc := 0) (j := 1) C dX9_isBroken_0 rfl rfl ?_
  obtain ⟨x1, ex1, hf⟩ := oB hf
  refine v_getF (pc := 1) C lk_X9_85 (gI_eq ex1) dX9_isBroken_1 ?_
  refine v_if_ne (pc := 4) (tgt := 40) C dX9_isBroken_4 rfl (fun hc => ?_) (fun hc => ?_)
  · rw [if_neg hc] at hf
    refine v_aload_n (pc := 40) (j := 0) C dX9_isBroken_40 rfl rfl ?_
    obtain ⟨x2, ex2, hf⟩ := oB hf
    refine v_getF (pc := 41) C lk_X9_130 (gI_eq ex2) dX9_isBroken_41 ?_
    refine v_aload_n (pc := 44) (j := 0) C dX9_isBroken_44 rfl rfl ?_
    obtain ⟨x3, ex3, hf⟩ := oB hf
    refine v_getF (pc := 45) C lk_X9_25 (gR_eq ex3) dX9_isBroken_45 ?_
    refine v_aload_n (pc := 48) (j := 1) C dX9_isBroken_48 rfl rfl ?_
    obtain ⟨b4, eb4, hf⟩ := oB hf
    obtain ⟨rb4, _, kb4⟩ := aIs_eq eb4
    obtain ⟨x5, ex5, hf⟩ := oB hf
    refine v_call (pc := 49) (d_V (pc := 49) C (As := [va_rf a1]) (rest := [.int x2]) rb4 kb4 nt_15 q1192 yi_J2_indexOf_java_util_ArrayList yk_J2_indexOf rfl (by decide) (by decide) (Nat.le_trans (aw_i aw_0) (by decide)) rfl (mJ2_indexOf C.st ex5) dX9_isBroken_49) ?_
    obtain ⟨x8, ex8, hf⟩ := oB hf
    refine v_call (pc := 52) (d_SN (pc := 52) C (As := [.int x2, .int x5]) (rest := []) q1243 q1244 yk_X1_has_2 rfl (by decide) (by decide) (Nat.le_trans aw_0 (by decide)) rfl (mX1_has_2 C.st ex8) dX9_isBroken_52) ?_
    obtain ⟨_, e10, hf⟩ := oB hf
    cases hf
    exact v_zreturn (pc := 55) C X.2.1 X.2.2.1 X.2.2.2.1 (ckZ_eq e10) rfl dX9_isBroken_55
  · rw [if_pos (Decidable.of_not_not hc)] at hf
    refine v_aload_n (pc := 7) (j := 0) C dX9_isBroken_7 rfl rfl ?_
    refine v_aload_n (pc := 8) (j := 0) C dX9_isBroken_8 rfl rfl ?_
    refine v_aload_n (pc := 9) (j := 1) C dX9_isBroken_9 rfl rfl ?_
    obtain ⟨x11, ex11, hf⟩ := oB hf
    refine v_getF (pc := 10) C lk_X9_109 (gR_eq ex11) dX9_isBroken_10 ?_
    obtain ⟨b12, eb12, hf⟩ := oB hf
    obtain ⟨rb12, _, kb12⟩ := aIs_eq eb12
    obtain ⟨x13, ex13, hf⟩ := oB hf
    refine v_call (pc := 13) (d_V (pc := 13) C (As := [va_rf x11]) (rest := [va_rf a0]) rb12 kb12 nt_8 q1188 yi_X9_index_FigureSurvey_Scene yk_X9_index rfl (by decide) (by decide) (Nat.le_trans (aw_r aw_0) (by decide)) rfl (mX9_index C.st ex13) dX9_isBroken_13) ?_
    obtain ⟨b15, eb15, hf⟩ := oB hf
    obtain ⟨rb15, _, kb15⟩ := aIs_eq eb15
    obtain ⟨x16, ex16, hf⟩ := oB hf
    refine v_call (pc := 16) (d_V (pc := 16) C (As := [.int x13]) (rest := []) rb15 kb15 nt_8 q1263 yi_X9_place_FigureSurvey_Scene yk_X9_place rfl (by decide) (by decide) (Nat.le_trans aw_0 (by decide)) rfl (mX9_place C.st ex16) dX9_isBroken_16) ?_
    refine v_aload_n (pc := 19) (j := 0) C dX9_isBroken_19 rfl rfl ?_
    refine v_aload_n (pc := 20) (j := 0) C dX9_isBroken_20 rfl rfl ?_
    refine v_aload_n (pc := 21) (j := 1) C dX9_isBroken_21 rfl rfl ?_
    obtain ⟨x18, ex18, hf⟩ := oB hf
    refine v_getF (pc := 22) C lk_X9_117 (gR_eq ex18) dX9_isBroken_22 ?_
    obtain ⟨b19, eb19, hf⟩ := oB hf
    obtain ⟨rb19, _, kb19⟩ := aIs_eq eb19
    obtain ⟨x20, ex20, hf⟩ := oB hf
    refine v_call (pc := 25) (d_V (pc := 25) C (As := [va_rf x18]) (rest := [va_rf a0, .int x16]) rb19 kb19 nt_8 q1188 yi_X9_index_FigureSurvey_Scene yk_X9_index rfl (by decide) (by decide) (Nat.le_trans (aw_r (aw_i aw_0)) (by decide)) rfl (mX9_index C.st ex20) dX9_isBroken_25) ?_
    obtain ⟨b22, eb22, hf⟩ := oB hf
    obtain ⟨rb22, _, kb22⟩ := aIs_eq eb22
    obtain ⟨x23, ex23, hf⟩ := oB hf
    refine v_call (pc := 28) (d_V (pc := 28) C (As := [.int x20]) (rest := [.int x16]) rb22 kb22 nt_8 q1263 yi_X9_place_FigureSurvey_Scene yk_X9_place rfl (by decide) (by decide) (Nat.le_trans (aw_i aw_0) (by decide)) rfl (mX9_place C.st ex23) dX9_isBroken_28) ?_
    refine v_icmp_ge (pc := 31) (tgt := 38) C dX9_isBroken_31 rfl (fun hc => ?_) (fun hc => ?_)
    · rw [if_pos hc] at hf
      refine v_iconst (pc := 38) (v := (0 : Int32)) C dX9_isBroken_38 rfl ?_
      cases hf
      exact v_zreturn (pc := 39) C X.2.1 X.2.2.1 X.2.2.2.1 (by decide) rfl dX9_isBroken_39
    · rw [if_neg hc] at hf
      refine v_iconst (pc := 34) (v := (1 : Int32)) C dX9_isBroken_34 rfl ?_
      refine v_goto (pc := 35) (tgt := 39) C dX9_isBroken_35 rfl ?_
      cases hf
      exact v_zreturn (pc := 39) C X.2.1 X.2.2.1 X.2.2.2.1 (by decide) rfl dX9_isBroken_39
theorem mX9_isBroken {l : Launch} {D : aD} {h : aH} {a0 : Option Nat} {a1 : Option Nat} {q : Int32} (hst : l.stackTraces = false) (hf : fX9_isBroken D h a0 a1 = some q) : aM l D yX9_isBroken cX9_isBroken 2 (some .boolean) 4 88 [va_rf a0, va_rf a1] h (.inr (some (.int q)), h) :=
  aM.ofX [(false, va_rf a0), (false, va_rf a1)] rfl (ap_r (ap_r ap_0)) (by decide +kernel) hst (al_of (aw_r (aw_r aw_0)) (by decide)) fun p e s m args below meth c X => V.sub (lv' := [(0, false, va_rf a0), (1, false, va_rf a1)]) [0, 1] rfl (vX9_isBroken X hf)
def fX9_close_p69 (D : aD) (K10 : aH → (Option Nat) → Int32 → Int32 → Option (aH)) (K17 : aH → (Option Nat) → Int32 → Int32 → Int32 → Option (aH)) (K25 : aH → (Option Nat) → Int32 → Int32 → Int32 → Int32 → Option (aH)) (h : aH) (a0 : Option Nat) (a1 : Int32) (a2 : Int32) (a3 : Int32) (a4 : Int32) (t0 : Option Nat) (t1 : Int32) (t2 : Int32) (t3 : Int32) : Option (aH) :=
  (ckZ (t2 ||| t3)).bind fun _ =>
  (sF D h 102 t0 t1 (.int (t2 ||| t3))).bind fun h1 =>
  K25 h1 a0 a1 a2 a3 (a4 + 1)
theorem vX9_close_p69 {h : aH} {K10 : aH → (Option Nat) → Int32 → Int32 → Option (aH)} {K17 : aH → (Option Nat) → Int32 → Int32 → Int32 → Option (aH)} {K25 : aH → (Option Nat) → Int32 → Int32 → Int32 → Int32 → Option (aH)} {a0 : Option Nat} {a1 : Int32} {a2 : Int32} {a3 : Int32} {a4 : Int32} {t0 : Option Nat} {t1 : Int32} {t2 : Int32} {t3 : Int32} {g : aH} (X : aX p l R s m meth c D n0 s0 yX9_close cX9_close 1 20 5 (none) h0) (k10 : ∀ (h : aH) (a0 : Option Nat) (a1 : Int32) (a2 : Int32) (g : aH), K10 h a0 a1 a2 = some g → V p l e R s m args below meth c D n0 s0 (aEnd D below args s h0 (.inr none, g)) h 10 [(0, false, va_rf a0), (1, false, .int a1), (2, false, .int a2)] []) (k17 : ∀ (h : aH) (a0 : Option Nat) (a1 : Int32) (a2 : Int32) (a3 : Int32) (g : aH), K17 h a0 a1 a2 a3 = some g → V p l e R s m args below meth c D n0 s0 (aEnd D below args s h0 (.inr none, g)) h 17 [(0, false, va_rf a0), (1, false, .int a1), (2, false, .int a2), (3, false, .int a3)] []) (k25 : ∀ (h : aH) (a0 : Option Nat) (a1 : Int32) (a2 : Int32) (a3 : Int32) (a4 : Int32) (g : aH), K25 h a0 a1 a2 a3 a4 = some g → V p l e R s m args below meth c D n0 s0 (aEnd D below args s h0 (.inr none, g)) h 25 [(0, false, va_rf a0), (1, false, .int a1), (2, false, .int a2), (3, false, .int a3), (4, false, .int a4)] []) (hf : fX9_close_p69 D K10 K17 K25 h a0 a1 a2 a3 a4 t0 t1 t2 t3 = some g) : V p l e R s m args below meth c D n0 s0 (aEnd D below args s h0 (.inr none, g)) h 69 [(0, false, va_rf a0), (1, false, .int a1), (2, false, .int a2), (3, false, .int a3), (4, false, .int a4)] [.int t3, .int t2, .int t1, va_rf t0] := by
  have C := X.1
  unfold fX9_close_p69 at hf
  refine v_ior (pc := 69) C dX9_close_69 ?_
  obtain ⟨_, zh1, hf⟩ := oB hf
  obtain ⟨h1, eh1, hf⟩ := oB hf
  refine v_bastore (pc := 70) C (ckZ_eq zh1) eh1 dX9_close_70 ?_
  refine v_iinc (pc := 71) (j := 4) (v := (a4 + 1)) (lv' := [(4, false, .int (a4 + 1)), (0, false, va_rf a0), (1, false, .int a1), (2, false, .int a2), (3, false, .int a3)]) C dX9_close_71 rfl rfl (by decide) rfl ?_
  refine v_goto (pc := 74) (tgt := 25) C dX9_close_74 rfl ?_
  exact V.sub [1, 2, 3, 4, 0] rfl (k25 _ _ _ _ _ _ _ hf)
def fX9_close_p77 (D : aD) (K10 : aH → (Option Nat) → Int32 → Int32 → Option (aH)) (K17 : aH → (Option Nat) → Int32 → Int32 → Int32 → Option (aH)) (h : aH) (a0 : Option Nat) (a1 : Int32) (a2 : Int32) (a3 : Int32) : Option (aH) :=
  K17 h a0 a1 a2 (a3 + 1)
theorem vX9_close_p77 {h : aH} {K10 : aH → (Option Nat) → Int32 → Int32 → Option (aH)} {K17 : aH → (Option Nat) → Int32 → Int32 → Int32 → Option (aH)} {a0 : Option Nat} {a1 : Int32} {a2 : Int32} {a3 : Int32} {g : aH} (X : aX p l R s m meth c D n0 s0 yX9_close cX9_close 1 20 5 (none) h0) (k10 : ∀ (h : aH) (a0 : Option Nat) (a1 : Int32) (a2 : Int32) (g : aH), K10 h a0 a1 a2 = some g → V p l e R s m args below meth c D n0 s0 (aEnd D below args s h0 (.inr none, g)) h 10 [(0, false, va_rf a0), (1, false, .int a1), (2, false, .int a2)] []) (k17 : ∀ (h : aH) (a0 : Option Nat) (a1 : Int32) (a2 : Int32) (a3 : Int32) (g : aH), K17 h a0 a1 a2 a3 = some g → V p l e R s m args below meth c D n0 s0 (aEnd D below args s h0 (.inr none, g)) h 17 [(0, false, va_rf a0), (1, false, .int a1), (2, false, .int a2), (3, false, .int a3)] []) (hf : fX9_close_p77 D K10 K17 h a0 a1 a2 a3 = some g) : V p l e R s m args below meth c D n0 s0 (aEnd D below args s h0 (.inr none, g)) h 77 [(0, false, va_rf a0), (1, false, .int a1), (2, false, .int a2), (3, false, .int a3)] [] := by
  have C := X.1
  unfold fX9_close_p77 at hf
  refine v_iinc (pc := 77) (j := 3) (v := (a3 + 1)) (lv' := [(3, false, .int (a3 + 1)), (0, false, va_rf a0), (1, false, .int a1), (2, false, .int a2)]) C dX9_close_77 rfl rfl (by decide) rfl ?_
  refine v_goto (pc := 80) (tgt := 17) C dX9_close_80 rfl ?_
  exact V.sub [1, 2, 3, 0] rfl (k17 _ _ _ _ _ _ hf)
def fX9_close_p25 (D : aD) (K10 : aH → (Option Nat) → Int32 → Int32 → Option (aH)) (K17 : aH → (Option Nat) → Int32 → Int32 → Int32 → Option (aH)) : Nat → aH → (Option Nat) → Int32 → Int32 → Int32 → Int32 → Option (aH)
  | 0, _, _, _, _, _, _ => none
  | n + 1, h, a0, a1, a2, a3, a4 =>
  if a1 ≤ a4 then
  (fX9_close_p77 D K10 K17 h a0 a1 a2 a3)
  else
  ((gR h 8 5 a0).bind fun x1 =>
  (eR h x1 a3).bind fun x2 =>
  (eZ h x2 a4).bind fun x3 =>
  (gR h 8 5 a0).bind fun x4 =>
  (eR h x4 a3).bind fun x5 =>
  (eZ h x5 a2).bind fun x6 =>
  if x6 = 0 then
  (fX9_close_p69 D K10 K17 (fX9_close_p25 D K10 K17 n) h a0 a1 a2 a3 a4 x2 a4 x3 (0 : Int32))
  else
  ((gR h 8 5 a0).bind fun x7 =>
  (eR h x7 a2).bind fun x8 =>
  (eZ h x8 a4).bind fun x9 =>
  fX9_close_p69 D K10 K17 (fX9_close_p25 D K10 K17 n) h a0 a1 a2 a3 a4 x2 a4 x3 (if x9 = 0 then (0 : Int32) else (1 : Int32))))
theorem vX9_close_p25 {K10 : aH → (Option Nat) → Int32 → Int32 → Option (aH)} {K17 : aH → (Option Nat) → Int32 → Int32 → Int32 → Option (aH)} (X : aX p l R s m meth c D n0 s0 yX9_close cX9_close 1 20 5 (none) h0) (k10 : ∀ (h : aH) (a0 : Option Nat) (a1 : Int32) (a2 : Int32) (g : aH), K10 h a0 a1 a2 = some g → V p l e R s m args below meth c D n0 s0 (aEnd D below args s h0 (.inr none, g)) h 10 [(0, false, va_rf a0), (1, false, .int a1), (2, false, .int a2)] []) (k17 : ∀ (h : aH) (a0 : Option Nat) (a1 : Int32) (a2 : Int32) (a3 : Int32) (g : aH), K17 h a0 a1 a2 a3 = some g → V p l e R s m args below meth c D n0 s0 (aEnd D below args s h0 (.inr none, g)) h 17 [(0, false, va_rf a0), (1, false, .int a1), (2, false, .int a2), (3, false, .int a3)] []) : ∀ (n : Nat) (h : aH) (a0 : Option Nat) (a1 : Int32) (a2 : Int32) (a3 : Int32) (a4 : Int32) (g : aH), fX9_close_p25 D K10 K17 n h a0 a1 a2 a3 a4 = some g → V p l e R s m args below meth c D n0 s0 (aEnd D below args s h0 (.inr none, g)) h 25 [(0, false, va_rf a0), (1, false, .int a1), (2, false, .int a2), (3, false, .int a3), (4, false, .int a4)] [] := by
  have C := X.1
  intro n
  induction n with
  | zero =>
    intro _ _ _ _ _ _ _ hf
    rw [fX9_close_p25] at hf
    cases hf
  | succ n ih =>
    intro h a0 a1 a2 a3 a4 g hf
    rw [fX9_close_p25] at hf
    refine v_iload (pc := 25) (j := 4) C dX9_close_25 rfl ?_
    refine v_iload_n (pc := 27) (j := 1) C dX9_close_27 rfl rfl ?_
    refine v_icmp_ge (pc := 28) (tgt := 77) C dX9_close_28 rfl (fun hc => ?_) (fun hc => ?_)
    · rw [if_pos hc] at hf
      exact V.sub [0, 1, 2, 3] rfl (vX9_close_p77 X k10 k17 hf)
    · rw [if_neg hc] at hf
      refine v_aload_n (pc := 31) (j := 0) C dX9_close_31 rfl rfl ?_
      obtain ⟨x1, ex1, hf⟩ := oB hf
      refine v_getF (pc := 32) C lk_X9_103 (gR_eq ex1) dX9_close_32 ?_
      refine v_iload_n (pc := 35) (j := 3) C dX9_close_35 rfl rfl ?_
      obtain ⟨x2, ex2, hf⟩ := oB hf
      refine v_aaload (pc := 36) C ex2 dX9_close_36 ?_
      refine v_iload (pc := 37) (j := 4) C dX9_close_37 rfl ?_
      refine v_dup2_11 (pc := 39) C dX9_close_39 rfl (va_rfc _) ?_
      obtain ⟨x3, ex3, hf⟩ := oB hf
      refine v_baload (pc := 40) C ex3 dX9_close_40 ?_
      refine v_aload_n (pc := 41) (j := 0) C dX9_close_41 rfl rfl ?_
      obtain ⟨x4, ex4, hf⟩ := oB hf
      refine v_getF (pc := 42) C lk_X9_103 (gR_eq ex4) dX9_close_42 ?_
      refine v_iload_n (pc := 45) (j := 3) C dX9_close_45 rfl rfl ?_
      obtain ⟨x5, ex5, hf⟩ := oB hf
      refine v_aaload (pc := 46) C ex5 dX9_close_46 ?_
      refine v_iload_n (pc := 47) (j := 2) C dX9_close_47 rfl rfl ?_
      obtain ⟨x6, ex6, hf⟩ := oB hf
      refine v_baload (pc := 48) C ex6 dX9_close_48 ?_
      refine v_if_eq (pc := 49) (tgt := 68) C dX9_close_49 rfl (fun hc => ?_) (fun hc => ?_)
      · rw [if_pos hc] at hf
        refine v_iconst (pc := 68) (v := (0 : Int32)) C dX9_close_68 rfl ?_
        exact V.sub [0, 1, 2, 3, 4] rfl (vX9_close_p69 X k10 k17 ih hf)
      · rw [if_neg hc] at hf
        refine v_aload_n (pc := 52) (j := 0) C dX9_close_52 rfl rfl ?_
        obtain ⟨x7, ex7, hf⟩ := oB hf
        refine v_getF (pc := 53) C lk_X9_103 (gR_eq ex7) dX9_close_53 ?_
        refine v_iload_n (pc := 56) (j := 2) C dX9_close_56 rfl rfl ?_
        obtain ⟨x8, ex8, hf⟩ := oB hf
        refine v_aaload (pc := 57) C ex8 dX9_close_57 ?_
        refine v_iload (pc := 58) (j := 4) C dX9_close_58 rfl ?_
        obtain ⟨x9, ex9, hf⟩ := oB hf
        refine v_baload (pc := 60) C ex9 dX9_close_60 ?_
        refine v_if_eq (pc := 61) (tgt := 68) C dX9_close_61 rfl (fun hc => ?_) (fun hc => ?_)
        · simp only [if_pos hc] at hf
          refine v_iconst (pc := 68) (v := (0 : Int32)) C dX9_close_68 rfl ?_
          exact V.sub [0, 1, 2, 3, 4] rfl (vX9_close_p69 X k10 k17 ih hf)
        · simp only [if_neg hc] at hf
          refine v_iconst (pc := 64) (v := (1 : Int32)) C dX9_close_64 rfl ?_
          refine v_goto (pc := 65) (tgt := 69) C dX9_close_65 rfl ?_
          exact V.sub [0, 1, 2, 3, 4] rfl (vX9_close_p69 X k10 k17 ih hf)
def fX9_close_p83 (D : aD) (K10 : aH → (Option Nat) → Int32 → Int32 → Option (aH)) (h : aH) (a0 : Option Nat) (a1 : Int32) (a2 : Int32) : Option (aH) :=
  K10 h a0 a1 (a2 + 1)
theorem vX9_close_p83 {h : aH} {K10 : aH → (Option Nat) → Int32 → Int32 → Option (aH)} {a0 : Option Nat} {a1 : Int32} {a2 : Int32} {g : aH} (X : aX p l R s m meth c D n0 s0 yX9_close cX9_close 1 20 5 (none) h0) (k10 : ∀ (h : aH) (a0 : Option Nat) (a1 : Int32) (a2 : Int32) (g : aH), K10 h a0 a1 a2 = some g → V p l e R s m args below meth c D n0 s0 (aEnd D below args s h0 (.inr none, g)) h 10 [(0, false, va_rf a0), (1, false, .int a1), (2, false, .int a2)] []) (hf : fX9_close_p83 D K10 h a0 a1 a2 = some g) : V p l e R s m args below meth c D n0 s0 (aEnd D below args s h0 (.inr none, g)) h 83 [(0, false, va_rf a0), (1, false, .int a1), (2, false, .int a2)] [] := by
  have C := X.1
  unfold fX9_close_p83 at hf
  refine v_iinc (pc := 83) (j := 2) (v := (a2 + 1)) (lv' := [(2, false, .int (a2 + 1)), (0, false, va_rf a0), (1, false, .int a1)]) C dX9_close_83 rfl rfl (by decide) rfl ?_
  refine v_goto (pc := 86) (tgt := 10) C dX9_close_86 rfl ?_
  exact V.sub [1, 2, 0] rfl (k10 _ _ _ _ _ hf)
def fX9_close_p17 (D : aD) (K10 : aH → (Option Nat) → Int32 → Int32 → Option (aH)) : Nat → aH → (Option Nat) → Int32 → Int32 → Int32 → Option (aH)
  | 0, _, _, _, _, _ => none
  | n + 1, h, a0, a1, a2, a3 =>
  if a1 ≤ a3 then
  (fX9_close_p83 D K10 h a0 a1 a2)
  else
  (fX9_close_p25 D K10 (fX9_close_p17 D K10 n) FU h a0 a1 a2 a3 (0 : Int32))
theorem vX9_close_p17 {K10 : aH → (Option Nat) → Int32 → Int32 → Option (aH)} (X : aX p l R s m meth c D n0 s0 yX9_close cX9_close 1 20 5 (none) h0) (k10 : ∀ (h : aH) (a0 : Option Nat) (a1 : Int32) (a2 : Int32) (g : aH), K10 h a0 a1 a2 = some g → V p l e R s m args below meth c D n0 s0 (aEnd D below args s h0 (.inr none, g)) h 10 [(0, false, va_rf a0), (1, false, .int a1), (2, false, .int a2)] []) : ∀ (n : Nat) (h : aH) (a0 : Option Nat) (a1 : Int32) (a2 : Int32) (a3 : Int32) (g : aH), fX9_close_p17 D K10 n h a0 a1 a2 a3 = some g → V p l e R s m args below meth c D n0 s0 (aEnd D below args s h0 (.inr none, g)) h 17 [(0, false, va_rf a0), (1, false, .int a1), (2, false, .int a2), (3, false, .int a3)] [] := by
  have C := X.1
  intro n
  induction n with
  | zero =>
    intro _ _ _ _ _ _ hf
    rw [fX9_close_p17] at hf
    cases hf
  | succ n ih =>
    intro h a0 a1 a2 a3 g hf
    rw [fX9_close_p17] at hf
    refine v_iload_n (pc := 17) (j := 3) C dX9_close_17 rfl rfl ?_
    refine v_iload_n (pc := 18) (j := 1) C dX9_close_18 rfl rfl ?_
    refine v_icmp_ge (pc := 19) (tgt := 83) C dX9_close_19 rfl (fun hc => ?_) (fun hc => ?_)
    · rw [if_pos hc] at hf
      exact V.sub [0, 1, 2] rfl (vX9_close_p83 X k10 hf)
    · rw [if_neg hc] at hf
      refine v_iconst (pc := 22) (v := (0 : Int32)) C dX9_close_22 rfl ?_
      refine v_istore (pc := 23) (lv' := [(4, false, .int (0 : Int32)), (0, false, va_rf a0), (1, false, .int a1), (2, false, .int a2), (3, false, .int a3)]) C dX9_close_23 (by decide) rfl ?_
      exact V.sub [1, 2, 3, 4, 0] rfl (vX9_close_p25 X k10 ih _ _ _ _ _ _ _ _ hf)
def fX9_close_p10 (D : aD) : Nat → aH → (Option Nat) → Int32 → Int32 → Option (aH)
  | 0, _, _, _, _ => none
  | n + 1, h, a0, a1, a2 =>
  if a1 ≤ a2 then
  (some h)
  else
  (fX9_close_p17 D (fX9_close_p10 D n) FU h a0 a1 a2 (0 : Int32))
theorem vX9_close_p10 (X : aX p l R s m meth c D n0 s0 yX9_close cX9_close 1 20 5 (none) h0) : ∀ (n : Nat) (h : aH) (a0 : Option Nat) (a1 : Int32) (a2 : Int32) (g : aH), fX9_close_p10 D n h a0 a1 a2 = some g → V p l e R s m args below meth c D n0 s0 (aEnd D below args s h0 (.inr none, g)) h 10 [(0, false, va_rf a0), (1, false, .int a1), (2, false, .int a2)] [] := by
  have C := X.1
  intro n
  induction n with
  | zero =>
    intro _ _ _ _ _ hf
    rw [fX9_close_p10] at hf
    cases hf
  | succ n ih =>
    intro h a0 a1 a2 g hf
    rw [fX9_close_p10] at hf
    refine v_iload_n (pc := 10) (j := 2) C dX9_close_10 rfl rfl ?_
    refine v_iload_n (pc := 11) (j := 1) C dX9_close_11 rfl rfl ?_
    refine v_icmp_ge (pc := 12) (tgt := 89) C dX9_close_12 rfl (fun hc => ?_) (fun hc => ?_)
    · rw [if_pos hc] at hf
      cases hf
      exact v_return (pc := 89) C X.2.1 X.2.2.1 X.2.2.2.1 rfl dX9_close_89
    · rw [if_neg hc] at hf
      refine v_iconst (pc := 15) (v := (0 : Int32)) C dX9_close_15 rfl ?_
      refine v_istore_n (pc := 16) (lv' := [(3, false, .int (0 : Int32)), (0, false, va_rf a0), (1, false, .int a1), (2, false, .int a2)]) C dX9_close_16 rfl (by decide) rfl ?_
      exact V.sub [1, 2, 3, 0] rfl (vX9_close_p17 X ih _ _ _ _ _ _ _ hf)
def fX9_close (D : aD) (h : aH) (a0 : Option Nat) : Option (aH) :=
  (gR h 8 1 a0).bind fun x1 =>
  (aIs h 15 x1).bind fun _ =>
  (fJ2_size D h x1).bind fun x3 =>
  fX9_close_p10 D FU h a0 x3 (0 : Int32)
theorem vX9_close {h : aH} {a0 : Option Nat} {g : aH} (X : aX p l R s m meth c D n0 s0 yX9_close cX9_close 1 20 5 (none) h0) (hf : fX9_close D h a0 = some g) : V p l e R s m args below meth c D n0 s0 (aEnd D below args s h0 (.inr none, g)) h 0 [(0, false, va_rf a0)] [] := by
  have C := X.1
  unfold fX9_close at hf
  refine v_aload_n (pc := 0) (j := 0) C dX9_close_0 rfl rfl ?_
  obtain ⟨x1, ex1, hf⟩ := oB hf
  refine v_getF (pc := 1) C lk_X9_18 (gR_eq ex1) dX9_close_1 ?_
  obtain ⟨b2, eb2, hf⟩ := oB hf
  obtain ⟨rb2, _, kb2⟩ := aIs_eq eb2
  obtain ⟨x3, ex3, hf⟩ := oB hf
  refine v_call (pc := 4) (d_V (pc := 4) C (As := []) (rest := []) rb2 kb2 nt_15 q870 yi_J2_size_java_util_ArrayList yk_J2_size rfl (by decide) (by decide) (Nat.le_trans aw_0 (by decide)) rfl (mJ2_size C.st ex3) dX9_close_4) ?_
  refine v_istore_n (pc := 7) (lv' := [(1, false, .int x3), (0, false, va_rf a0)]) C dX9_close_7 rfl (by decide) rfl ?_
  refine v_iconst (pc := 8) (v := (0 : Int32)) C dX9_close_8 rfl ?_
  refine v_istore_n (pc := 9) (lv' := [(2, false, .int (0 : Int32)), (1, false, .int x3), (0, false, va_rf a0)]) C dX9_close_9 rfl (by decide) rfl ?_
  exact V.sub [2, 1, 0] rfl (vX9_close_p10 X _ _ _ _ _ _ hf)
theorem mX9_close {l : Launch} {D : aD} {h : aH} {a0 : Option Nat} {g : aH} (hst : l.stackTraces = false) (hf : fX9_close D h a0 = some g) : aM l D yX9_close cX9_close 5 (none) 1 20 [va_rf a0] h (.inr none, g) :=
  aM.ofX [(false, va_rf a0)] rfl (ap_r ap_0) (by decide +kernel) hst (al_of (aw_r aw_0) (by decide)) fun p e s m args below meth c X => V.sub (lv' := [(0, false, va_rf a0)]) [0] rfl (vX9_close X hf)
def fX8_year_p78 (D : aD) (h : aH) (t0 : Int32) (t1 : Int32) : Option (Int32) :=
  some (t0 - t1)
theorem vX8_year_p78 {h : aH} {t0 : Int32} {t1 : Int32} {q : Int32} (X : aX p l R s m meth c D n0 s0 yX8_year cX8_year 0 0 1 (some .int) h0) (hf : fX8_year_p78 D h t0 t1 = some q) : V p l e R s m args below meth c D n0 s0 (aEnd D below args s h0 (.inr (some (.int q)), h)) h 78 [] [.int t1, .int t0] := by
  have C := X.1
  unfold fX8_year_p78 at hf
  refine v_isub (pc := 78) C dX8_year_78 ?_
  cases hf
  exact v_ireturn (pc := 79) C X.2.1 X.2.2.1 X.2.2.2.1 rfl dX8_year_79
def fX8_year (D : aD) (h : aH) (a0 : Option Nat) : Option (Int32) :=
  (gI h 7 1 a0).bind fun x1 =>
  if x1 = (1 : Int32) then
  ((gR h 7 6 a0).bind fun x10 =>
  (gR h 0 7 x10).bind fun x11 =>
  (gI h 7 4 a0).bind fun x12 =>
  (eI h x11 x12).bind fun x13 =>
  some x13)
  else
  ((gI h 7 1 a0).bind fun x2 =>
  if x2 = (2 : Int32) then
  ((gR h 7 6 a0).bind fun x6 =>
  (gR h 0 8 x6).bind fun x7 =>
  (gI h 7 4 a0).bind fun x8 =>
  (eI h x7 x8).bind fun x9 =>
  some x9)
  else
  ((gI h 7 4 a0).bind fun x3 =>
  if (20 : Int32) < x3 then
  ((gI h 7 4 a0).bind fun x4 =>
  fX8_year_p78 D h (30000 : Int32) ((200 : Int32) + ((25 : Int32) * (x4 - (20 : Int32)))))
  else
  ((gI h 7 4 a0).bind fun x5 =>
  fX8_year_p78 D h (30000 : Int32) ((10 : Int32) * x5))))
theorem vX8_year {h : aH} {a0 : Option Nat} {q : Int32} (X : aX p l R s m meth c D n0 s0 yX8_year cX8_year 0 0 1 (some .int) h0) (hf : fX8_year D h a0 = some q) : V p l e R s m args below meth c D n0 s0 (aEnd D below args s h0 (.inr (some (.int q)), h)) h 0 [(0, false, va_rf a0)] [] := by
  have C := X.1
  unfold fX8_year at hf
  refine v_aload_n (pc := 0) (j := 0) C dX8_year_0 rfl rfl ?_
  obtain ⟨x1, ex1, hf⟩ := oB hf
  refine v_getF (pc := 1) C lk_X8_22 (gI_eq ex1) dX8_year_1 ?_
  refine v_iconst (pc := 4) (v := (1 : Int32)) C dX8_year_4 rfl ?_
  refine v_icmp_ne (pc := 5) (tgt := 21) C dX8_year_5 rfl (fun hc => ?_) (fun hc => ?_)
  · rw [if_neg hc] at hf
    refine v_aload_n (pc := 21) (j := 0) C dX8_year_21 rfl rfl ?_
    obtain ⟨x2, ex2, hf⟩ := oB hf
    refine v_getF (pc := 22) C lk_X8_22 (gI_eq ex2) dX8_year_22 ?_
    refine v_iconst (pc := 25) (v := (2 : Int32)) C dX8_year_25 rfl ?_
    refine v_icmp_ne (pc := 26) (tgt := 42) C dX8_year_26 rfl (fun hc => ?_) (fun hc => ?_)
    · rw [if_neg hc] at hf
      refine v_sipush (pc := 42) (v := (30000 : Int32)) C dX8_year_42 rfl ?_
      refine v_aload_n (pc := 45) (j := 0) C dX8_year_45 rfl rfl ?_
      obtain ⟨x3, ex3, hf⟩ := oB hf
      refine v_getF (pc := 46) C lk_X8_32 (gI_eq ex3) dX8_year_46 ?_
      refine v_bipush (pc := 49) (v := (20 : Int32)) C dX8_year_49 rfl ?_
      refine v_icmp_gt (pc := 51) (tgt := 64) C dX8_year_51 rfl (fun hc => ?_) (fun hc => ?_)
      · rw [if_pos hc] at hf
        refine v_sipush (pc := 64) (v := (200 : Int32)) C dX8_year_64 rfl ?_
        refine v_bipush (pc := 67) (v := (25 : Int32)) C dX8_year_67 rfl ?_
        refine v_aload_n (pc := 69) (j := 0) C dX8_year_69 rfl rfl ?_
        obtain ⟨x4, ex4, hf⟩ := oB hf
        refine v_getF (pc := 70) C lk_X8_32 (gI_eq ex4) dX8_year_70 ?_
        refine v_bipush (pc := 73) (v := (20 : Int32)) C dX8_year_73 rfl ?_
        refine v_isub (pc := 75) C dX8_year_75 ?_
        refine v_imul (pc := 76) C dX8_year_76 ?_
        refine v_iadd (pc := 77) C dX8_year_77 ?_
        exact V.sub [] rfl (vX8_year_p78 X hf)
      · rw [if_neg hc] at hf
        refine v_bipush (pc := 54) (v := (10 : Int32)) C dX8_year_54 rfl ?_
        refine v_aload_n (pc := 56) (j := 0) C dX8_year_56 rfl rfl ?_
        obtain ⟨x5, ex5, hf⟩ := oB hf
        refine v_getF (pc := 57) C lk_X8_32 (gI_eq ex5) dX8_year_57 ?_
        refine v_imul (pc := 60) C dX8_year_60 ?_
        refine v_goto (pc := 61) (tgt := 78) C dX8_year_61 rfl ?_
        exact V.sub [] rfl (vX8_year_p78 X hf)
    · rw [if_pos (Decidable.of_not_not hc)] at hf
      refine v_aload_n (pc := 29) (j := 0) C dX8_year_29 rfl rfl ?_
      obtain ⟨x6, ex6, hf⟩ := oB hf
      refine v_getF (pc := 30) C lk_X8_3 (gR_eq ex6) dX8_year_30 ?_
      obtain ⟨x7, ex7, hf⟩ := oB hf
      refine v_getF (pc := 33) C lk_X8_48 (gR_eq ex7) dX8_year_33 ?_
      refine v_aload_n (pc := 36) (j := 0) C dX8_year_36 rfl rfl ?_
      obtain ⟨x8, ex8, hf⟩ := oB hf
      refine v_getF (pc := 37) C lk_X8_32 (gI_eq ex8) dX8_year_37 ?_
      obtain ⟨x9, ex9, hf⟩ := oB hf
      refine v_iaload (pc := 40) C ex9 dX8_year_40 ?_
      cases hf
      exact v_ireturn (pc := 41) C X.2.1 X.2.2.1 X.2.2.2.1 rfl dX8_year_41
  · rw [if_pos (Decidable.of_not_not hc)] at hf
    refine v_aload_n (pc := 8) (j := 0) C dX8_year_8 rfl rfl ?_
    obtain ⟨x10, ex10, hf⟩ := oB hf
    refine v_getF (pc := 9) C lk_X8_3 (gR_eq ex10) dX8_year_9 ?_
    obtain ⟨x11, ex11, hf⟩ := oB hf
    refine v_getF (pc := 12) C lk_X8_44 (gR_eq ex11) dX8_year_12 ?_
    refine v_aload_n (pc := 15) (j := 0) C dX8_year_15 rfl rfl ?_
    obtain ⟨x12, ex12, hf⟩ := oB hf
    refine v_getF (pc := 16) C lk_X8_32 (gI_eq ex12) dX8_year_16 ?_
    obtain ⟨x13, ex13, hf⟩ := oB hf
    refine v_iaload (pc := 19) C ex13 dX8_year_19 ?_
    cases hf
    exact v_ireturn (pc := 20) C X.2.1 X.2.2.1 X.2.2.2.1 rfl dX8_year_20
theorem mX8_year {l : Launch} {D : aD} {h : aH} {a0 : Option Nat} {q : Int32} (hst : l.stackTraces = false) (hf : fX8_year D h a0 = some q) : aM l D yX8_year cX8_year 1 (some .int) 0 0 [va_rf a0] h (.inr (some (.int q)), h) :=
  aM.ofX [(false, va_rf a0)] rfl (ap_r ap_0) (by decide +kernel) hst (al_of (aw_r aw_0) (by decide)) fun p e s m args below meth c X => V.sub (lv' := [(0, false, va_rf a0)]) [0] rfl (vX8_year X hf)
def fX9_clash (D : aD) (h : aH) (a0 : Option Nat) (a1 : Int32) (a2 : Int32) : Option (Int32) :=
  (gR h 8 3 a0).bind fun x1 =>
  (aIs h 15 x1).bind fun _ =>
  (fJ2_get D h x1 a1).bind fun x3 =>
  (aCast h [7] x3).bind fun _ =>
  (gR h 8 3 a0).bind fun x6 =>
  (aIs h 15 x6).bind fun _ =>
  (fJ2_get D h x6 a2).bind fun x8 =>
  (aCast h [7] x8).bind fun _ =>
  (gI h 7 1 x3).bind fun x11 =>
  if x11 = (1 : Int32) then
  ((gI h 7 1 x8).bind fun x12 =>
  if x12 = (1 : Int32) then
  (some (0 : Int32))
  else
  ((aIs h 7 x3).bind fun _ =>
  (fX8_year D h x3).bind fun x14 =>
  (aIs h 7 x8).bind fun _ =>
  (fX8_year D h x8).bind fun x17 =>
  if x17 < x14 then
  ((gR h 7 2 x3).bind fun x19 =>
  (gR h 7 2 x8).bind fun x20 =>
  if x19 = x20 then
  (some (1 : Int32))
  else
  ((gR h 8 5 a0).bind fun x21 =>
  (gR h 7 2 x8).bind fun x22 =>
  (aIs h 8 a0).bind fun _ =>
  (fX9_index D h a0 x22).bind fun x24 =>
  (eR h x21 x24).bind fun x26 =>
  (gR h 7 2 x3).bind fun x27 =>
  (aIs h 8 a0).bind fun _ =>
  (fX9_index D h a0 x27).bind fun x29 =>
  (eZ h x26 x29).bind fun x31 =>
  if x31 = 0 then
  (some (0 : Int32))
  else
  (some (1 : Int32))))
  else
  (some (0 : Int32))))
  else
  (some (0 : Int32))
theorem vX9_clash {h : aH} {a0 : Option Nat} {a1 : Int32} {a2 : Int32} {q : Int32} (X : aX p l R s m meth c D n0 s0 yX9_clash cX9_clash 4 88 5 (some .boolean) h0) (hf : fX9_clash D h a0 a1 a2 = some q) : V p l e R s m args below meth c D n0 s0 (aEnd D below args s h0 (.inr (some (.int q)), h)) h 0 [(0, false, va_rf a0), (1, false, .int a1), (2, false, .int a2)] [] := by
  have C := X.1
  unfold fX9_clash at hf
  refine v_aload_n (pc := 0) (j := 0) C dX9_clash_0 rfl rfl ?_
  obtain ⟨x1, ex1, hf⟩ := oB hf
  refine v_getF (pc := 1) C lk_X9_25 (gR_eq ex1) dX9_clash_1 ?_
  refine v_iload_n (pc := 4) (j := 1) C dX9_clash_4 rfl rfl ?_
  obtain ⟨b2, eb2, hf⟩ := oB hf
  obtain ⟨rb2, _, kb2⟩ := aIs_eq eb2
  obtain ⟨x3, ex3, hf⟩ := oB hf
  refine v_call (pc := 5) (d_V (pc := 5) C (As := [.int a1]) (rest := []) rb2 kb2 nt_15 q871 yi_J2_get_java_util_ArrayList yk_J2_get rfl (by decide) (by decide) (Nat.le_trans aw_0 (by decide)) rfl (mJ2_get C.st ex3) dX9_clash_5) ?_
  obtain ⟨_, e5, hf⟩ := oB hf
  refine v_cast (pc := 8) C q1179 ct_FigureSurvey_Finding e5 dX9_clash_8 ?_
  refine v_astore_n (pc := 11) (lv' := [(3, false, va_rf x3), (0, false, va_rf a0), (1, false, .int a1), (2, false, .int a2)]) C dX9_clash_11 rfl (by decide) rfl ?_
  refine v_aload_n (pc := 12) (j := 1) C dX9_clash_12 rfl rfl ?_
  obtain ⟨x6, ex6, hf⟩ := oB hf
  refine v_getF (pc := 13) C lk_X9_25 (gR_eq ex6) dX9_clash_13 ?_
  refine v_iload_n (pc := 16) (j := 3) C dX9_clash_16 rfl rfl ?_
  obtain ⟨b7, eb7, hf⟩ := oB hf
  obtain ⟨rb7, _, kb7⟩ := aIs_eq eb7
  obtain ⟨x8, ex8, hf⟩ := oB hf
  refine v_call (pc := 17) (d_V (pc := 17) C (As := [.int a2]) (rest := []) rb7 kb7 nt_15 q871 yi_J2_get_java_util_ArrayList yk_J2_get rfl (by decide) (by decide) (Nat.le_trans aw_0 (by decide)) rfl (mJ2_get C.st ex8) dX9_clash_17) ?_
  obtain ⟨_, e10, hf⟩ := oB hf
  refine v_cast (pc := 20) C q1179 ct_FigureSurvey_Finding e10 dX9_clash_20 ?_
  refine v_astore (pc := 23) (lv' := [(4, false, va_rf x8), (3, false, va_rf x3), (0, false, va_rf a0), (1, false, .int a1), (2, false, .int a2)]) C dX9_clash_23 (by decide) rfl ?_
  refine v_aload_n (pc := 25) (j := 1) C dX9_clash_25 rfl rfl ?_
  obtain ⟨x11, ex11, hf⟩ := oB hf
  refine v_getF (pc := 26) C lk_X9_85 (gI_eq ex11) dX9_clash_26 ?_
  refine v_iconst (pc := 29) (v := (1 : Int32)) C dX9_clash_29 rfl ?_
  refine v_icmp_ne (pc := 30) (tgt := 54) C dX9_clash_30 rfl (fun hc => ?_) (fun hc => ?_)
  · rw [if_neg hc] at hf
    refine v_iconst (pc := 54) (v := (0 : Int32)) C dX9_clash_54 rfl ?_
    cases hf
    exact v_zreturn (pc := 55) C X.2.1 X.2.2.1 X.2.2.2.1 (by decide) rfl dX9_clash_55
  · rw [if_pos (Decidable.of_not_not hc)] at hf
    refine v_aload (pc := 33) (j := 0) C dX9_clash_33 rfl ?_
    obtain ⟨x12, ex12, hf⟩ := oB hf
    refine v_getF (pc := 35) C lk_X9_85 (gI_eq ex12) dX9_clash_35 ?_
    refine v_iconst (pc := 38) (v := (1 : Int32)) C dX9_clash_38 rfl ?_
    refine v_icmp_eq (pc := 39) (tgt := 54) C dX9_clash_39 rfl (fun hc => ?_) (fun hc => ?_)
    · rw [if_pos hc] at hf
      refine v_iconst (pc := 54) (v := (0 : Int32)) C dX9_clash_54 rfl ?_
      cases hf
      exact v_zreturn (pc := 55) C X.2.1 X.2.2.1 X.2.2.2.1 (by decide) rfl dX9_clash_55
    · rw [if_neg hc] at hf
      refine v_aload_n (pc := 42) (j := 1) C dX9_clash_42 rfl rfl ?_
      obtain ⟨b13, eb13, hf⟩ := oB hf
      obtain ⟨rb13, _, kb13⟩ := aIs_eq eb13
      obtain ⟨x14, ex14, hf⟩ := oB hf
      refine v_call (pc := 43) (d_V (pc := 43) C (As := []) (rest := []) rb13 kb13 nt_7 q1274 yi_X8_year_FigureSurvey_Finding yk_X8_year rfl (by decide) (by decide) (Nat.le_trans aw_0 (by decide)) rfl (mX8_year C.st ex14) dX9_clash_43) ?_
      refine v_aload (pc := 46) (j := 0) C dX9_clash_46 rfl ?_
      obtain ⟨b16, eb16, hf⟩ := oB hf
      obtain ⟨rb16, _, kb16⟩ := aIs_eq eb16
      obtain ⟨x17, ex17, hf⟩ := oB hf
      refine v_call (pc := 48) (d_V (pc := 48) C (As := []) (rest := [.int x14]) rb16 kb16 nt_7 q1274 yi_X8_year_FigureSurvey_Finding yk_X8_year rfl (by decide) (by decide) (Nat.le_trans (aw_i aw_0) (by decide)) rfl (mX8_year C.st ex17) dX9_clash_48) ?_
      refine v_icmp_gt (pc := 51) (tgt := 56) C dX9_clash_51 rfl (fun hc => ?_) (fun hc => ?_)
      · rw [if_pos hc] at hf
        refine v_aload_n (pc := 56) (j := 1) C dX9_clash_56 rfl rfl ?_
        obtain ⟨x19, ex19, hf⟩ := oB hf
        refine v_getF (pc := 57) C lk_X9_109 (gR_eq ex19) dX9_clash_57 ?_
        refine v_aload (pc := 60) (j := 0) C dX9_clash_60 rfl ?_
        obtain ⟨x20, ex20, hf⟩ := oB hf
        refine v_getF (pc := 62) C lk_X9_109 (gR_eq ex20) dX9_clash_62 ?_
        refine v_acmp_eq (pc := 65) (tgt := 94) C dX9_clash_65 rfl (fun hc => ?_) (fun hc => ?_)
        · rw [if_pos hc] at hf
          refine v_iconst (pc := 94) (v := (1 : Int32)) C dX9_clash_94 rfl ?_
          refine v_goto (pc := 95) (tgt := 99) C dX9_clash_95 rfl ?_
          cases hf
          exact v_zreturn (pc := 99) C X.2.1 X.2.2.1 X.2.2.2.1 (by decide) rfl dX9_clash_99
        · rw [if_neg hc] at hf
          refine v_aload_n (pc := 68) (j := 2) C dX9_clash_68 rfl rfl ?_
          obtain ⟨x21, ex21, hf⟩ := oB hf
          refine v_getF (pc := 69) C lk_X9_103 (gR_eq ex21) dX9_clash_69 ?_
          refine v_aload_n (pc := 72) (j := 2) C dX9_clash_72 rfl rfl ?_
          refine v_aload (pc := 73) (j := 0) C dX9_clash_73 rfl ?_
          obtain ⟨x22, ex22, hf⟩ := oB hf
          refine v_getF (pc := 75) C lk_X9_109 (gR_eq ex22) dX9_clash_75 ?_
          obtain ⟨b23, eb23, hf⟩ := oB hf
          obtain ⟨rb23, _, kb23⟩ := aIs_eq eb23
          obtain ⟨x24, ex24, hf⟩ := oB hf
          refine v_call (pc := 78) (d_V (pc := 78) C (As := [va_rf x22]) (rest := [va_rf x21]) rb23 kb23 nt_8 q1188 yi_X9_index_FigureSurvey_Scene yk_X9_index rfl (by decide) (by decide) (Nat.le_trans (aw_r aw_0) (by decide)) rfl (mX9_index C.st ex24) dX9_clash_78) ?_
          obtain ⟨x26, ex26, hf⟩ := oB hf
          refine v_aaload (pc := 81) C ex26 dX9_clash_81 ?_
          refine v_aload_n (pc := 82) (j := 2) C dX9_clash_82 rfl rfl ?_
          refine v_aload_n (pc := 83) (j := 1) C dX9_clash_83 rfl rfl ?_
          obtain ⟨x27, ex27, hf⟩ := oB hf
          refine v_getF (pc := 84) C lk_X9_109 (gR_eq ex27) dX9_clash_84 ?_
          obtain ⟨b28, eb28, hf⟩ := oB hf
          obtain ⟨rb28, _, kb28⟩ := aIs_eq eb28
          obtain ⟨x29, ex29, hf⟩ := oB hf
          refine v_call (pc := 87) (d_V (pc := 87) C (As := [va_rf x27]) (rest := [va_rf x26]) rb28 kb28 nt_8 q1188 yi_X9_index_FigureSurvey_Scene yk_X9_index rfl (by decide) (by decide) (Nat.le_trans (aw_r aw_0) (by decide)) rfl (mX9_index C.st ex29) dX9_clash_87) ?_
          obtain ⟨x31, ex31, hf⟩ := oB hf
          refine v_baload (pc := 90) C ex31 dX9_clash_90 ?_
          refine v_if_eq (pc := 91) (tgt := 98) C dX9_clash_91 rfl (fun hc => ?_) (fun hc => ?_)
          · rw [if_pos hc] at hf
            refine v_iconst (pc := 98) (v := (0 : Int32)) C dX9_clash_98 rfl ?_
            cases hf
            exact v_zreturn (pc := 99) C X.2.1 X.2.2.1 X.2.2.2.1 (by decide) rfl dX9_clash_99
          · rw [if_neg hc] at hf
            refine v_iconst (pc := 94) (v := (1 : Int32)) C dX9_clash_94 rfl ?_
            refine v_goto (pc := 95) (tgt := 99) C dX9_clash_95 rfl ?_
            cases hf
            exact v_zreturn (pc := 99) C X.2.1 X.2.2.1 X.2.2.2.1 (by decide) rfl dX9_clash_99
      · rw [if_neg hc] at hf
        refine v_iconst (pc := 54) (v := (0 : Int32)) C dX9_clash_54 rfl ?_
        cases hf
        exact v_zreturn (pc := 55) C X.2.1 X.2.2.1 X.2.2.2.1 (by decide) rfl dX9_clash_55
theorem mX9_clash {l : Launch} {D : aD} {h : aH} {a0 : Option Nat} {a1 : Int32} {a2 : Int32} {q : Int32} (hst : l.stackTraces = false) (hf : fX9_clash D h a0 a1 a2 = some q) : aM l D yX9_clash cX9_clash 5 (some .boolean) 4 88 [va_rf a0, .int a1, .int a2] h (.inr (some (.int q)), h) :=
  aM.ofX [(false, va_rf a0), (false, .int a1), (false, .int a2)] rfl (ap_r (ap_c rfl (ap_c rfl ap_0))) (by decide +kernel) hst (al_of (aw_r (aw_i (aw_i aw_0))) (by decide)) fun p e s m args below meth c X => V.sub (lv' := [(0, false, va_rf a0), (1, false, .int a1), (2, false, .int a2)]) [0, 1, 2] rfl (vX9_clash X hf)
def fX9_weight_p40 (D : aD) (h : aH) (K4 : (Option Nat) → Int32 → Int32 → Int32 → Option (Int32)) (a0 : Option Nat) (a1 : Int32) (a2 : Int32) (a3 : Int32) : Option (Int32) :=
  K4 a0 a1 a2 (a3 + 1)
theorem vX9_weight_p40 {h : aH} {K4 : (Option Nat) → Int32 → Int32 → Int32 → Option (Int32)} {a0 : Option Nat} {a1 : Int32} {a2 : Int32} {a3 : Int32} {q : Int32} (X : aX p l R s m meth c D n0 s0 yX9_weight cX9_weight 3 64 4 (some .int) h0) (k4 : ∀ (a0 : Option Nat) (a1 : Int32) (a2 : Int32) (a3 : Int32) (q : Int32), K4 a0 a1 a2 a3 = some q → V p l e R s m args below meth c D n0 s0 (aEnd D below args s h0 (.inr (some (.int q)), h)) h 4 [(0, false, va_rf a0), (1, false, .int a1), (2, false, .int a2), (3, false, .int a3)] []) (hf : fX9_weight_p40 D h K4 a0 a1 a2 a3 = some q) : V p l e R s m args below meth c D n0 s0 (aEnd D below args s h0 (.inr (some (.int q)), h)) h 40 [(0, false, va_rf a0), (1, false, .int a1), (2, false, .int a2), (3, false, .int a3)] [] := by
  have C := X.1
  unfold fX9_weight_p40 at hf
  refine v_iinc (pc := 40) (j := 3) (v := (a3 + 1)) (lv' := [(3, false, .int (a3 + 1)), (0, false, va_rf a0), (1, false, .int a1), (2, false, .int a2)]) C dX9_weight_40 rfl rfl (by decide) rfl ?_
  refine v_goto (pc := 43) (tgt := 4) C dX9_weight_43 rfl ?_
  exact V.sub [1, 2, 3, 0] rfl (k4 _ _ _ _ _ hf)
def fX9_weight_p4 (D : aD) (h : aH) : Nat → (Option Nat) → Int32 → Int32 → Int32 → Option (Int32)
  | 0, _, _, _, _ => none
  | n + 1, a0, a1, a2, a3 =>
  (gR h 8 3 a0).bind fun x1 =>
  (aIs h 15 x1).bind fun _ =>
  (fJ2_size D h x1).bind fun x3 =>
  if x3 ≤ a3 then
  (some a2)
  else
  ((fX1_has_2 D h a1 a3).bind fun x6 =>
  if x6 = 0 then
  (fX9_weight_p40 D h (fX9_weight_p4 D h n) a0 a1 a2 a3)
  else
  ((gR h 8 3 a0).bind fun x8 =>
  (aIs h 15 x8).bind fun _ =>
  (fJ2_get D h x8 a3).bind fun x10 =>
  (aCast h [7] x10).bind fun _ =>
  (gI h 7 5 x10).bind fun x13 =>
  (some ((a2 + x13))).bind fun x14 =>
  fX9_weight_p40 D h (fX9_weight_p4 D h n) a0 a1 x14 a3))
theorem vX9_weight_p4 {h : aH} (X : aX p l R s m meth c D n0 s0 yX9_weight cX9_weight 3 64 4 (some .int) h0) : ∀ (n : Nat) (a0 : Option Nat) (a1 : Int32) (a2 : Int32) (a3 : Int32) (q : Int32), fX9_weight_p4 D h n a0 a1 a2 a3 = some q → V p l e R s m args below meth c D n0 s0 (aEnd D below args s h0 (.inr (some (.int q)), h)) h 4 [(0, false, va_rf a0), (1, false, .int a1), (2, false, .int a2), (3, false, .int a3)] [] := by
  have C := X.1
  intro n
  induction n with
  | zero =>
    intro _ _ _ _ _ hf
    rw [fX9_weight_p4] at hf
    cases hf
  | succ n ih =>
    intro a0 a1 a2 a3 q hf
    rw [fX9_weight_p4] at hf
    refine v_iload_n (pc := 4) (j := 3) C dX9_weight_4 rfl rfl ?_
    refine v_aload_n (pc := 5) (j := 0) C dX9_weight_5 rfl rfl ?_
    obtain ⟨x1, ex1, hf⟩ := oB hf
    refine v_getF (pc := 6) C lk_X9_25 (gR_eq ex1) dX9_weight_6 ?_
    obtain ⟨b2, eb2, hf⟩ := oB hf
    obtain ⟨rb2, _, kb2⟩ := aIs_eq eb2
    obtain ⟨x3, ex3, hf⟩ := oB hf
    refine v_call (pc := 9) (d_V (pc := 9) C (As := []) (rest := [.int a3]) rb2 kb2 nt_15 q870 yi_J2_size_java_util_ArrayList yk_J2_size rfl (by decide) (by decide) (Nat.le_trans (aw_i aw_0) (by decide)) rfl (mJ2_size C.st ex3) dX9_weight_9) ?_
    refine v_icmp_ge (pc := 12) (tgt := 46) C dX9_weight_12 rfl (fun hc => ?_) (fun hc => ?_)
    · rw [if_pos hc] at hf
      refine v_iload_n (pc := 46) (j := 2) C dX9_weight_46 rfl rfl ?_
      cases hf
      exact v_ireturn (pc := 47) C X.2.1 X.2.2.1 X.2.2.2.1 rfl dX9_weight_47
    · rw [if_neg hc] at hf
      refine v_iload_n (pc := 15) (j := 1) C dX9_weight_15 rfl rfl ?_
      refine v_iload_n (pc := 16) (j := 3) C dX9_weight_16 rfl rfl ?_
      obtain ⟨x6, ex6, hf⟩ := oB hf
      refine v_call (pc := 17) (d_SN (pc := 17) C (As := [.int a1, .int a3]) (rest := []) q1243 q1244 yk_X1_has_2 rfl (by decide) (by decide) (Nat.le_trans aw_0 (by decide)) rfl (mX1_has_2 C.st ex6) dX9_weight_17) ?_
      refine v_if_eq (pc := 20) (tgt := 40) C dX9_weight_20 rfl (fun hc => ?_) (fun hc => ?_)
      · rw [if_pos hc] at hf
        exact V.sub [0, 1, 2, 3] rfl (vX9_weight_p40 X ih hf)
      · rw [if_neg hc] at hf
        refine v_iload_n (pc := 23) (j := 2) C dX9_weight_23 rfl rfl ?_
        refine v_aload_n (pc := 24) (j := 0) C dX9_weight_24 rfl rfl ?_
        obtain ⟨x8, ex8, hf⟩ := oB hf
        refine v_getF (pc := 25) C lk_X9_25 (gR_eq ex8) dX9_weight_25 ?_
        refine v_iload_n (pc := 28) (j := 3) C dX9_weight_28 rfl rfl ?_
        obtain ⟨b9, eb9, hf⟩ := oB hf
        obtain ⟨rb9, _, kb9⟩ := aIs_eq eb9
        obtain ⟨x10, ex10, hf⟩ := oB hf
        refine v_call (pc := 29) (d_V (pc := 29) C (As := [.int a3]) (rest := [.int a2]) rb9 kb9 nt_15 q871 yi_J2_get_java_util_ArrayList yk_J2_get rfl (by decide) (by decide) (Nat.le_trans (aw_i aw_0) (by decide)) rfl (mJ2_get C.st ex10) dX9_weight_29) ?_
        obtain ⟨_, e12, hf⟩ := oB hf
        refine v_cast (pc := 32) C q1179 ct_FigureSurvey_Finding e12 dX9_weight_32 ?_
        obtain ⟨x13, ex13, hf⟩ := oB hf
        refine v_getF (pc := 35) C lk_X9_145 (gI_eq ex13) dX9_weight_35 ?_
        refine v_iadd (pc := 38) C dX9_weight_38 ?_
        obtain ⟨x14, ex14, hf⟩ := oB hf
        refine vst (Option.some.inj ex14) (fun z => .int z :: []) ?_
        refine v_istore_n (pc := 39) (lv' := [(2, false, .int x14), (0, false, va_rf a0), (1, false, .int a1), (3, false, .int a3)]) C dX9_weight_39 rfl (by decide) rfl ?_
        exact V.sub [1, 2, 0, 3] rfl (vX9_weight_p40 X ih hf)
def fX9_weight (D : aD) (h : aH) (a0 : Option Nat) (a1 : Int32) : Option (Int32) :=
  fX9_weight_p4 D h FU a0 a1 (0 : Int32) (0 : Int32)
theorem vX9_weight {h : aH} {a0 : Option Nat} {a1 : Int32} {q : Int32} (X : aX p l R s m meth c D n0 s0 yX9_weight cX9_weight 3 64 4 (some .int) h0) (hf : fX9_weight D h a0 a1 = some q) : V p l e R s m args below meth c D n0 s0 (aEnd D below args s h0 (.inr (some (.int q)), h)) h 0 [(0, false, va_rf a0), (1, false, .int a1)] [] := by
  have C := X.1
  unfold fX9_weight at hf
  refine v_iconst (pc := 0) (v := (0 : Int32)) C dX9_weight_0 rfl ?_
  refine v_istore_n (pc := 1) (lv' := [(2, false, .int (0 : Int32)), (0, false, va_rf a0), (1, false, .int a1)]) C dX9_weight_1 rfl (by decide) rfl ?_
  refine v_iconst (pc := 2) (v := (0 : Int32)) C dX9_weight_2 rfl ?_
  refine v_istore_n (pc := 3) (lv' := [(3, false, .int (0 : Int32)), (2, false, .int (0 : Int32)), (0, false, va_rf a0), (1, false, .int a1)]) C dX9_weight_3 rfl (by decide) rfl ?_
  exact V.sub [2, 3, 1, 0] rfl (vX9_weight_p4 X _ _ _ _ _ _ hf)
theorem mX9_weight {l : Launch} {D : aD} {h : aH} {a0 : Option Nat} {a1 : Int32} {q : Int32} (hst : l.stackTraces = false) (hf : fX9_weight D h a0 a1 = some q) : aM l D yX9_weight cX9_weight 4 (some .int) 3 64 [va_rf a0, .int a1] h (.inr (some (.int q)), h) :=
  aM.ofX [(false, va_rf a0), (false, .int a1)] rfl (ap_r (ap_c rfl ap_0)) (by decide +kernel) hst (al_of (aw_r (aw_i aw_0)) (by decide)) fun p e s m args below meth c X => V.sub (lv' := [(0, false, va_rf a0), (1, false, .int a1)]) [0, 1] rfl (vX9_weight X hf)
def fX9_broken_p7 (D : aD) (h : aH) : Nat → (Option Nat) → (Option Nat) → Int32 → Int32 → Int32 → Option (Int32)
  | 0, _, _, _, _, _ => none
  | n + 1, a0, a1, a2, a3, a4 =>
  (eN h a1).bind fun x1 =>
  if x1 ≤ a4 then
  (some a2)
  else
  ((eI h a1 a4).bind fun x2 =>
  (aIs h 8 a0).bind fun _ =>
  (fX9_price D h a0 a3 x2).bind fun x4 =>
  (some ((a2 + x4))).bind fun x6 =>
  (eI h a1 a4).bind fun x7 =>
  (some ((a3 ||| ((1 : Int32) <<< (x7 &&& 31))))).bind fun x8 =>
  fX9_broken_p7 D h n a0 a1 x6 x8 (a4 + 1))
theorem vX9_broken_p7 {h : aH} (X : aX p l R s m meth c D n0 s0 yX9_broken cX9_broken 5 113 5 (some .int) h0) : ∀ (n : Nat) (a0 : Option Nat) (a1 : Option Nat) (a2 : Int32) (a3 : Int32) (a4 : Int32) (q : Int32), fX9_broken_p7 D h n a0 a1 a2 a3 a4 = some q → V p l e R s m args below meth c D n0 s0 (aEnd D below args s h0 (.inr (some (.int q)), h)) h 7 [(0, false, va_rf a0), (1, false, va_rf a1), (2, false, .int a2), (3, false, .int a3), (4, false, .int a4)] [] := by
  have C := X.1
  intro n
  induction n with
  | zero =>
    intro _ _ _ _ _ _ hf
    rw [fX9_broken_p7] at hf
    cases hf
  | succ n ih =>
    intro a0 a1 a2 a3 a4 q hf
    rw [fX9_broken_p7] at hf
    refine v_iload (pc := 7) (j := 4) C dX9_broken_7 rfl ?_
    refine v_aload_n (pc := 9) (j := 1) C dX9_broken_9 rfl rfl ?_
    obtain ⟨x1, ex1, hf⟩ := oB hf
    refine v_alen (pc := 10) C ex1 dX9_broken_10 ?_
    refine v_icmp_ge (pc := 11) (tgt := 41) C dX9_broken_11 rfl (fun hc => ?_) (fun hc => ?_)
    · rw [if_pos hc] at hf
      refine v_iload_n (pc := 41) (j := 2) C dX9_broken_41 rfl rfl ?_
      cases hf
      exact v_ireturn (pc := 42) C X.2.1 X.2.2.1 X.2.2.2.1 rfl dX9_broken_42
    · rw [if_neg hc] at hf
      refine v_iload_n (pc := 14) (j := 2) C dX9_broken_14 rfl rfl ?_
      refine v_aload_n (pc := 15) (j := 0) C dX9_broken_15 rfl rfl ?_
      refine v_iload_n (pc := 16) (j := 3) C dX9_broken_16 rfl rfl ?_
      refine v_aload_n (pc := 17) (j := 1) C dX9_broken_17 rfl rfl ?_
      refine v_iload (pc := 18) (j := 4) C dX9_broken_18 rfl ?_
      obtain ⟨x2, ex2, hf⟩ := oB hf
      refine v_iaload (pc := 20) C ex2 dX9_broken_20 ?_
      obtain ⟨b3, eb3, hf⟩ := oB hf
      obtain ⟨rb3, _, kb3⟩ := aIs_eq eb3
      obtain ⟨x4, ex4, hf⟩ := oB hf
      refine v_call (pc := 21) (d_V (pc := 21) C (As := [.int a3, .int x2]) (rest := [.int a2]) rb3 kb3 nt_8 q1334 yi_X9_price_FigureSurvey_Scene yk_X9_price rfl (by decide) (by decide) (Nat.le_trans (aw_i aw_0) (by decide)) rfl (mX9_price C.st ex4) dX9_broken_21) ?_
      refine v_iadd (pc := 24) C dX9_broken_24 ?_
      obtain ⟨x6, ex6, hf⟩ := oB hf
      refine vst (Option.some.inj ex6) (fun z => .int z :: []) ?_
      refine v_istore_n (pc := 25) (lv' := [(2, false, .int x6), (0, false, va_rf a0), (1, false, va_rf a1), (3, false, .int a3), (4, false, .int a4)]) C dX9_broken_25 rfl (by decide) rfl ?_
      refine v_iload_n (pc := 26) (j := 3) C dX9_broken_26 rfl rfl ?_
      refine v_iconst (pc := 27) (v := (1 : Int32)) C dX9_broken_27 rfl ?_
      refine v_aload_n (pc := 28) (j := 2) C dX9_broken_28 rfl rfl ?_
      refine v_iload (pc := 29) (j := 4) C dX9_broken_29 rfl ?_
      obtain ⟨x7, ex7, hf⟩ := oB hf
      refine v_iaload (pc := 31) C ex7 dX9_broken_31 ?_
      refine v_ishl (pc := 32) C dX9_broken_32 ?_
      refine v_ior (pc := 33) C dX9_broken_33 ?_
      obtain ⟨x8, ex8, hf⟩ := oB hf
      refine vst (Option.some.inj ex8) (fun z => .int z :: []) ?_
      refine v_istore_n (pc := 34) (lv' := [(3, false, .int x8), (2, false, .int x6), (0, false, va_rf a0), (1, false, va_rf a1), (4, false, .int a4)]) C dX9_broken_34 rfl (by decide) rfl ?_
      refine v_iinc (pc := 35) (j := 4) (v := (a4 + 1)) (lv' := [(4, false, .int (a4 + 1)), (3, false, .int x8), (2, false, .int x6), (0, false, va_rf a0), (1, false, va_rf a1)]) C dX9_broken_35 rfl rfl (by decide) rfl ?_
      refine v_goto (pc := 38) (tgt := 7) C dX9_broken_38 rfl ?_
      exact V.sub [3, 4, 2, 1, 0] rfl (ih _ _ _ _ _ _ hf)
def fX9_broken (D : aD) (h : aH) (a0 : Option Nat) (a1 : Option Nat) : Option (Int32) :=
  fX9_broken_p7 D h FU a0 a1 (0 : Int32) (0 : Int32) (0 : Int32)
theorem vX9_broken {h : aH} {a0 : Option Nat} {a1 : Option Nat} {q : Int32} (X : aX p l R s m meth c D n0 s0 yX9_broken cX9_broken 5 113 5 (some .int) h0) (hf : fX9_broken D h a0 a1 = some q) : V p l e R s m args below meth c D n0 s0 (aEnd D below args s h0 (.inr (some (.int q)), h)) h 0 [(0, false, va_rf a0), (1, false, va_rf a1)] [] := by
  have C := X.1
  unfold fX9_broken at hf
  refine v_iconst (pc := 0) (v := (0 : Int32)) C dX9_broken_0 rfl ?_
  refine v_istore_n (pc := 1) (lv' := [(2, false, .int (0 : Int32)), (0, false, va_rf a0), (1, false, va_rf a1)]) C dX9_broken_1 rfl (by decide) rfl ?_
  refine v_iconst (pc := 2) (v := (0 : Int32)) C dX9_broken_2 rfl ?_
  refine v_istore_n (pc := 3) (lv' := [(3, false, .int (0 : Int32)), (2, false, .int (0 : Int32)), (0, false, va_rf a0), (1, false, va_rf a1)]) C dX9_broken_3 rfl (by decide) rfl ?_
  refine v_iconst (pc := 4) (v := (0 : Int32)) C dX9_broken_4 rfl ?_
  refine v_istore (pc := 5) (lv' := [(4, false, .int (0 : Int32)), (3, false, .int (0 : Int32)), (2, false, .int (0 : Int32)), (0, false, va_rf a0), (1, false, va_rf a1)]) C dX9_broken_5 (by decide) rfl ?_
  exact V.sub [3, 4, 2, 1, 0] rfl (vX9_broken_p7 X _ _ _ _ _ _ _ hf)
theorem mX9_broken {l : Launch} {D : aD} {h : aH} {a0 : Option Nat} {a1 : Option Nat} {q : Int32} (hst : l.stackTraces = false) (hf : fX9_broken D h a0 a1 = some q) : aM l D yX9_broken cX9_broken 5 (some .int) 5 113 [va_rf a0, va_rf a1] h (.inr (some (.int q)), h) :=
  aM.ofX [(false, va_rf a0), (false, va_rf a1)] rfl (ap_r (ap_r ap_0)) (by decide +kernel) hst (al_of (aw_r (aw_r aw_0)) (by decide)) fun p e s m args below meth c X => V.sub (lv' := [(0, false, va_rf a0), (1, false, va_rf a1)]) [0, 1] rfl (vX9_broken X hf)
def fX9_rows_G_p28 (D : aD) (REC : aH → (Option Nat) → (Option Nat) → Int32 → Int32 → (Option Nat) → Option (aH)) (h : aH) (a1 : Option Nat) (a4 : Option Nat) : Option (aH) :=
  (eN h a1).bind fun x1 =>
  (aCpy D h a1 (0 : Int32) a4 (0 : Int32) x1).bind fun h2 =>
  some h2
theorem vX9_rows_G_p28 {h : aH} {a1 : Option Nat} {a4 : Option Nat} {g : aH} {REC : aH → (Option Nat) → (Option Nat) → Int32 → Int32 → (Option Nat) → Option (aH)} {rf rl rfR rlR : Nat} (X : aX p l R s m meth c D n0 s0 yX9_rows cX9_rows rf rl 6 (none) h0) (hB9 : 6 ≤ rf) (hB8 : 137 ≤ rl) (hR9 : rfR + 1 ≤ rf) (hR8 : 8 + (6 + 11) + rlR ≤ rl) (hR : ∀ (h : aH) (a0 : Option Nat) (a1 : Option Nat) (a2 : Int32) (a3 : Int32) (a4 : Option Nat) (g : aH), REC h a0 a1 a2 a3 a4 = some g → aM l D yX9_rows cX9_rows 6 (none) rfR rlR [va_rf a0, va_rf a1, .int a2, .int a3, va_rf a4] h (.inr none, g)) (hf : fX9_rows_G_p28 D REC h a1 a4 = some g) : V p l e R s m args below meth c D n0 s0 (aEnd D below args s h0 (.inr none, g)) h 28 [(1, false, va_rf a1), (4, false, va_rf a4)] [] := by
  have C := X.1
  unfold fX9_rows_G_p28 at hf
  refine v_aload_n (pc := 28) (j := 0) C dX9_rows_28 rfl rfl ?_
  refine v_iconst (pc := 29) (v := (0 : Int32)) C dX9_rows_29 rfl ?_
  refine v_aload (pc := 30) (j := 1) C dX9_rows_30 rfl ?_
  refine v_iconst (pc := 32) (v := (0 : Int32)) C dX9_rows_32 rfl ?_
  refine v_aload_n (pc := 33) (j := 0) C dX9_rows_33 rfl rfl ?_
  obtain ⟨x1, ex1, hf⟩ := oB hf
  refine v_alen (pc := 34) C ex1 dX9_rows_34 ?_
  obtain ⟨h2, eh2, hf⟩ := oB hf
  refine v_copy (pc := 35) C q1335 q481 q480 q90 eh2 (Nat.le_trans (by decide) hB9) (Nat.le_trans (Nat.add_le_add_right aw_0 _) (Nat.le_trans (by decide) hB8)) dX9_rows_35 ?_
  cases hf
  exact v_return (pc := 38) C X.2.1 X.2.2.1 X.2.2.2.1 rfl dX9_rows_38
def fX9_rows_G_p82 (D : aD) (REC : aH → (Option Nat) → (Option Nat) → Int32 → Int32 → (Option Nat) → Option (aH)) (K42 : aH → (Option Nat) → (Option Nat) → Int32 → Int32 → (Option Nat) → Int32 → Option (aH)) (h : aH) (a0 : Option Nat) (a1 : Option Nat) (a2 : Int32) (a3 : Int32) (a4 : Option Nat) (a5 : Int32) : Option (aH) :=
  K42 h a0 a1 a2 a3 a4 (a5 + 1)
theorem vX9_rows_G_p82 {h : aH} {K42 : aH → (Option Nat) → (Option Nat) → Int32 → Int32 → (Option Nat) → Int32 → Option (aH)} {a0 : Option Nat} {a1 : Option Nat} {a2 : Int32} {a3 : Int32} {a4 : Option Nat} {a5 : Int32} {g : aH} {REC : aH → (Option Nat) → (Option Nat) → Int32 → Int32 → (Option Nat) → Option (aH)} {rf rl rfR rlR : Nat} (X : aX p l R s m meth c D n0 s0 yX9_rows cX9_rows rf rl 6 (none) h0) (hB9 : 6 ≤ rf) (hB8 : 137 ≤ rl) (hR9 : rfR + 1 ≤ rf) (hR8 : 8 + (6 + 11) + rlR ≤ rl) (hR : ∀ (h : aH) (a0 : Option Nat) (a1 : Option Nat) (a2 : Int32) (a3 : Int32) (a4 : Option Nat) (g : aH), REC h a0 a1 a2 a3 a4 = some g → aM l D yX9_rows cX9_rows 6 (none) rfR rlR [va_rf a0, va_rf a1, .int a2, .int a3, va_rf a4] h (.inr none, g)) (k42 : ∀ (h : aH) (a0 : Option Nat) (a1 : Option Nat) (a2 : Int32) (a3 : Int32) (a4 : Option Nat) (a5 : Int32) (g : aH), K42 h a0 a1 a2 a3 a4 a5 = some g → V p l e R s m args below meth c D n0 s0 (aEnd D below args s h0 (.inr none, g)) h 42 [(0, false, va_rf a0), (1, false, va_rf a1), (2, false, .int a2), (3, false, .int a3), (4, false, va_rf a4), (5, false, .int a5)] []) (hf : fX9_rows_G_p82 D REC K42 h a0 a1 a2 a3 a4 a5 = some g) : V p l e R s m args below meth c D n0 s0 (aEnd D below args s h0 (.inr none, g)) h 82 [(0, false, va_rf a0), (1, false, va_rf a1), (2, false, .int a2), (3, false, .int a3), (4, false, va_rf a4), (5, false, .int a5)] [] := by
  have C := X.1
  unfold fX9_rows_G_p82 at hf
  refine v_iinc (pc := 82) (j := 5) (v := (a5 + 1)) (lv' := [(5, false, .int (a5 + 1)), (0, false, va_rf a0), (1, false, va_rf a1), (2, false, .int a2), (3, false, .int a3), (4, false, va_rf a4)]) C dX9_rows_82 rfl rfl (by decide) rfl ?_
  refine v_goto (pc := 85) (tgt := 42) C dX9_rows_85 rfl ?_
  exact V.sub [1, 2, 3, 4, 5, 0] rfl (k42 _ _ _ _ _ _ _ _ hf)
def fX9_rows_G_p42 (D : aD) (REC : aH → (Option Nat) → (Option Nat) → Int32 → Int32 → (Option Nat) → Option (aH)) : Nat → aH → (Option Nat) → (Option Nat) → Int32 → Int32 → (Option Nat) → Int32 → Option (aH)
  | 0, _, _, _, _, _, _, _ => none
  | n + 1, h, a0, a1, a2, a3, a4, a5 =>
  (eN h a1).bind fun x1 =>
  if x1 ≤ a5 then
  (some h)
  else
  ((fX1_has_2 D h a3 a5).bind fun x3 =>
  if x3 = 0 then
  ((sF D h 100 a1 a2 (.int a5)).bind fun h5 =>
  (aIs h5 8 a0).bind fun _ =>
  (REC h5 a0 a1 (a2 + (1 : Int32)) (a3 ||| ((1 : Int32) <<< (a5 &&& 31))) a4).bind fun h8 =>
  fX9_rows_G_p82 D REC (fX9_rows_G_p42 D REC n) h8 a0 a1 a2 a3 a4 a5)
  else
  (fX9_rows_G_p82 D REC (fX9_rows_G_p42 D REC n) h a0 a1 a2 a3 a4 a5))
theorem vX9_rows_G_p42 {REC : aH → (Option Nat) → (Option Nat) → Int32 → Int32 → (Option Nat) → Option (aH)} {rf rl rfR rlR : Nat} (X : aX p l R s m meth c D n0 s0 yX9_rows cX9_rows rf rl 6 (none) h0) (hB9 : 6 ≤ rf) (hB8 : 137 ≤ rl) (hR9 : rfR + 1 ≤ rf) (hR8 : 8 + (6 + 11) + rlR ≤ rl) (hR : ∀ (h : aH) (a0 : Option Nat) (a1 : Option Nat) (a2 : Int32) (a3 : Int32) (a4 : Option Nat) (g : aH), REC h a0 a1 a2 a3 a4 = some g → aM l D yX9_rows cX9_rows 6 (none) rfR rlR [va_rf a0, va_rf a1, .int a2, .int a3, va_rf a4] h (.inr none, g)) : ∀ (n : Nat) (h : aH) (a0 : Option Nat) (a1 : Option Nat) (a2 : Int32) (a3 : Int32) (a4 : Option Nat) (a5 : Int32) (g : aH), fX9_rows_G_p42 D REC n h a0 a1 a2 a3 a4 a5 = some g → V p l e R s m args below meth c D n0 s0 (aEnd D below args s h0 (.inr none, g)) h 42 [(0, false, va_rf a0), (1, false, va_rf a1), (2, false, .int a2), (3, false, .int a3), (4, false, va_rf a4), (5, false, .int a5)] [] := by
  have C := X.1
  intro n
  induction n with
  | zero =>
    intro _ _ _ _ _ _ _ _ hf
    rw [fX9_rows_G_p42] at hf
    cases hf
  | succ n ih =>
    intro h a0 a1 a2 a3 a4 a5 g hf
    rw [fX9_rows_G_p42] at hf
    refine v_iload (pc := 42) (j := 5) C dX9_rows_42 rfl ?_
    refine v_aload_n (pc := 44) (j := 1) C dX9_rows_44 rfl rfl ?_
    obtain ⟨x1, ex1, hf⟩ := oB hf
    refine v_alen (pc := 45) C ex1 dX9_rows_45 ?_
    refine v_icmp_ge (pc := 46) (tgt := 88) C dX9_rows_46 rfl (fun hc => ?_) (fun hc => ?_)
    · rw [if_pos hc] at hf
      cases hf
      exact v_return (pc := 88) C X.2.1 X.2.2.1 X.2.2.2.1 rfl dX9_rows_88
    · rw [if_neg hc] at hf
      refine v_iload_n (pc := 49) (j := 3) C dX9_rows_49 rfl rfl ?_
      refine v_iload (pc := 50) (j := 5) C dX9_rows_50 rfl ?_
      obtain ⟨x3, ex3, hf⟩ := oB hf
      refine v_call (pc := 52) (d_SN (pc := 52) C (As := [.int a3, .int a5]) (rest := []) q1243 q1244 yk_X1_has_2 rfl (Nat.le_trans (by decide) hB9) (Nat.le_trans (by decide) hB8) (Nat.le_trans aw_0 (by decide)) rfl (mX1_has_2 C.st ex3) dX9_rows_52) ?_
      refine v_if_eq (pc := 55) (tgt := 61) C dX9_rows_55 rfl (fun hc => ?_) (fun hc => ?_)
      · rw [if_pos hc] at hf
        refine v_aload_n (pc := 61) (j := 1) C dX9_rows_61 rfl rfl ?_
        refine v_iload_n (pc := 62) (j := 2) C dX9_rows_62 rfl rfl ?_
        refine v_iload (pc := 63) (j := 5) C dX9_rows_63 rfl ?_
        obtain ⟨h5, eh5, hf⟩ := oB hf
        refine v_iastore (pc := 65) C eh5 dX9_rows_65 ?_
        refine v_aload_n (pc := 66) (j := 0) C dX9_rows_66 rfl rfl ?_
        refine v_aload_n (pc := 67) (j := 1) C dX9_rows_67 rfl rfl ?_
        refine v_iload_n (pc := 68) (j := 2) C dX9_rows_68 rfl rfl ?_
        refine v_iconst (pc := 69) (v := (1 : Int32)) C dX9_rows_69 rfl ?_
        refine v_iadd (pc := 70) C dX9_rows_70 ?_
        refine v_iload_n (pc := 71) (j := 3) C dX9_rows_71 rfl rfl ?_
        refine v_iconst (pc := 72) (v := (1 : Int32)) C dX9_rows_72 rfl ?_
        refine v_iload (pc := 73) (j := 5) C dX9_rows_73 rfl ?_
        refine v_ishl (pc := 75) C dX9_rows_75 ?_
        refine v_ior (pc := 76) C dX9_rows_76 ?_
        refine v_aload (pc := 77) (j := 4) C dX9_rows_77 rfl ?_
        obtain ⟨b6, eb6, hf⟩ := oB hf
        obtain ⟨rb6, _, kb6⟩ := aIs_eq eb6
        obtain ⟨h8, ex7, hf⟩ := oB hf
        refine v_callU (pc := 79) (d_V (pc := 79) C (As := [va_rf a1, .int (a2 + (1 : Int32)), .int (a3 ||| ((1 : Int32) <<< (a5 &&& 31))), va_rf a4]) (rest := []) rb6 kb6 nt_8 q1326 yi_X9_rows_FigureSurvey_Scene yk_X9_rows rfl hR9 hR8 (Nat.le_trans aw_0 (by decide)) rfl (hR _ _ _ _ _ _ _ ex7) dX9_rows_79) ?_
        exact V.sub [0, 1, 2, 3, 4, 5] rfl (vX9_rows_G_p82 X hB9 hB8 hR9 hR8 hR ih hf)
      · rw [if_neg hc] at hf
        refine v_goto (pc := 58) (tgt := 82) C dX9_rows_58 rfl ?_
        exact V.sub [0, 1, 2, 3, 4, 5] rfl (vX9_rows_G_p82 X hB9 hB8 hR9 hR8 hR ih hf)
def fX9_rows_G (D : aD) (REC : aH → (Option Nat) → (Option Nat) → Int32 → Int32 → (Option Nat) → Option (aH)) (h : aH) (a0 : Option Nat) (a1 : Option Nat) (a2 : Int32) (a3 : Int32) (a4 : Option Nat) : Option (aH) :=
  (eN h a1).bind fun x1 =>
  if a2 = x1 then
  ((eI h a4 (0 : Int32)).bind fun x2 =>
  if x2 = (-1 : Int32) then
  (fX9_rows_G_p28 D REC h a1 a4)
  else
  ((aIs h 8 a0).bind fun _ =>
  (fX9_broken D h a0 a1).bind fun x4 =>
  (aIs h 8 a0).bind fun _ =>
  (fX9_broken D h a0 a4).bind fun x7 =>
  if x7 ≤ x4 then
  (some h)
  else
  (fX9_rows_G_p28 D REC h a1 a4)))
  else
  (fX9_rows_G_p42 D REC FU h a0 a1 a2 a3 a4 (0 : Int32))
theorem vX9_rows_G {h : aH} {a0 : Option Nat} {a1 : Option Nat} {a2 : Int32} {a3 : Int32} {a4 : Option Nat} {g : aH} {REC : aH → (Option Nat) → (Option Nat) → Int32 → Int32 → (Option Nat) → Option (aH)} {rf rl rfR rlR : Nat} (X : aX p l R s m meth c D n0 s0 yX9_rows cX9_rows rf rl 6 (none) h0) (hB9 : 6 ≤ rf) (hB8 : 137 ≤ rl) (hR9 : rfR + 1 ≤ rf) (hR8 : 8 + (6 + 11) + rlR ≤ rl) (hR : ∀ (h : aH) (a0 : Option Nat) (a1 : Option Nat) (a2 : Int32) (a3 : Int32) (a4 : Option Nat) (g : aH), REC h a0 a1 a2 a3 a4 = some g → aM l D yX9_rows cX9_rows 6 (none) rfR rlR [va_rf a0, va_rf a1, .int a2, .int a3, va_rf a4] h (.inr none, g)) (hf : fX9_rows_G D REC h a0 a1 a2 a3 a4 = some g) : V p l e R s m args below meth c D n0 s0 (aEnd D below args s h0 (.inr none, g)) h 0 [(0, false, va_rf a0), (1, false, va_rf a1), (2, false, .int a2), (3, false, .int a3), (4, false, va_rf a4)] [] := by
  have C := X.1
  unfold fX9_rows_G at hf
  refine v_iload_n (pc := 0) (j := 2) C dX9_rows_0 rfl rfl ?_
  refine v_aload_n (pc := 1) (j := 1) C dX9_rows_1 rfl rfl ?_
  obtain ⟨x1, ex1, hf⟩ := oB hf
  refine v_alen (pc := 2) C ex1 dX9_rows_2 ?_
  refine v_icmp_ne (pc := 3) (tgt := 39) C dX9_rows_3 rfl (fun hc => ?_) (fun hc => ?_)
  · rw [if_neg hc] at hf
    refine v_iconst (pc := 39) (v := (0 : Int32)) C dX9_rows_39 rfl ?_
    refine v_istore (pc := 40) (lv' := [(5, false, .int (0 : Int32)), (0, false, va_rf a0), (1, false, va_rf a1), (2, false, .int a2), (3, false, .int a3), (4, false, va_rf a4)]) C dX9_rows_40 (by decide) rfl ?_
    exact V.sub [1, 2, 3, 4, 5, 0] rfl (vX9_rows_G_p42 X hB9 hB8 hR9 hR8 hR _ _ _ _ _ _ _ _ _ hf)
  · rw [if_pos (Decidable.of_not_not hc)] at hf
    refine v_aload (pc := 6) (j := 4) C dX9_rows_6 rfl ?_
    refine v_iconst (pc := 8) (v := (0 : Int32)) C dX9_rows_8 rfl ?_
    obtain ⟨x2, ex2, hf⟩ := oB hf
    refine v_iaload (pc := 9) C ex2 dX9_rows_9 ?_
    refine v_iconst (pc := 10) (v := (-1 : Int32)) C dX9_rows_10 rfl ?_
    refine v_icmp_eq (pc := 11) (tgt := 28) C dX9_rows_11 rfl (fun hc => ?_) (fun hc => ?_)
    · rw [if_pos hc] at hf
      exact V.sub [1, 4] rfl (vX9_rows_G_p28 X hB9 hB8 hR9 hR8 hR hf)
    · rw [if_neg hc] at hf
      refine v_aload_n (pc := 14) (j := 0) C dX9_rows_14 rfl rfl ?_
      refine v_aload_n (pc := 15) (j := 1) C dX9_rows_15 rfl rfl ?_
      obtain ⟨b3, eb3, hf⟩ := oB hf
      obtain ⟨rb3, _, kb3⟩ := aIs_eq eb3
      obtain ⟨x4, ex4, hf⟩ := oB hf
      refine v_call (pc := 16) (d_V (pc := 16) C (As := [va_rf a1]) (rest := []) rb3 kb3 nt_8 q1330 yi_X9_broken_FigureSurvey_Scene yk_X9_broken rfl (Nat.le_trans (by decide) hB9) (Nat.le_trans (by decide) hB8) (Nat.le_trans aw_0 (by decide)) rfl (mX9_broken C.st ex4) dX9_rows_16) ?_
      refine v_aload_n (pc := 19) (j := 0) C dX9_rows_19 rfl rfl ?_
      refine v_aload (pc := 20) (j := 4) C dX9_rows_20 rfl ?_
      obtain ⟨b6, eb6, hf⟩ := oB hf
      obtain ⟨rb6, _, kb6⟩ := aIs_eq eb6
      obtain ⟨x7, ex7, hf⟩ := oB hf
      refine v_call (pc := 22) (d_V (pc := 22) C (As := [va_rf a4]) (rest := [.int x4]) rb6 kb6 nt_8 q1330 yi_X9_broken_FigureSurvey_Scene yk_X9_broken rfl (Nat.le_trans (by decide) hB9) (Nat.le_trans (by decide) hB8) (Nat.le_trans (aw_i aw_0) (by decide)) rfl (mX9_broken C.st ex7) dX9_rows_22) ?_
      refine v_icmp_ge (pc := 25) (tgt := 38) C dX9_rows_25 rfl (fun hc => ?_) (fun hc => ?_)
      · rw [if_pos hc] at hf
        cases hf
        exact v_return (pc := 38) C X.2.1 X.2.2.1 X.2.2.2.1 rfl dX9_rows_38
      · rw [if_neg hc] at hf
        exact V.sub [1, 4] rfl (vX9_rows_G_p28 X hB9 hB8 hR9 hR8 hR hf)
def fX9_rows (D : aD) : Nat → aH → (Option Nat) → (Option Nat) → Int32 → Int32 → (Option Nat) → Option (aH)
  | 0, _, _, _, _, _, _ => none
  | d + 1, h, a0, a1, a2, a3, a4 => fX9_rows_G D (fX9_rows D d) h a0 a1 a2 a3 a4
theorem mX9_rows {l : Launch} {D : aD} (hst : l.stackTraces = false) : ∀ (d : Nat) (h : aH) (a0 : Option Nat) (a1 : Option Nat) (a2 : Int32) (a3 : Int32) (a4 : Option Nat) (g : aH), fX9_rows D d h a0 a1 a2 a3 a4 = some g → aM l D yX9_rows cX9_rows 6 (none) (6 + d) (137 + 25 * d) [va_rf a0, va_rf a1, .int a2, .int a3, va_rf a4] h (.inr none, g) := by
  intro d
  induction d with
  | zero =>
    intro _ _ _ _ _ _ _ hf
    rw [fX9_rows] at hf
    cases hf
  | succ d ih =>
    intro h a0 a1 a2 a3 a4 g hf
    rw [fX9_rows] at hf
    exact aM.ofX [(false, va_rf a0), (false, va_rf a1), (false, .int a2), (false, .int a3), (false, va_rf a4)] rfl (ap_r (ap_r (ap_c rfl (ap_c rfl (ap_r ap_0))))) (by decide +kernel) hst (al_of (aw_r (aw_r (aw_i (aw_i (aw_r aw_0))))) (by decide)) fun p e s m args below meth c X => V.sub (lv' := [(0, false, va_rf a0), (1, false, va_rf a1), (2, false, .int a2), (3, false, .int a3), (4, false, va_rf a4)]) [0, 1, 2, 3, 4] rfl (vX9_rows_G X (by omega) (by omega) (Nat.le_refl _) (by omega) ih hf)
def fX9_isFree_p53 (D : aD) (h : aH) (K2 : (Option Nat) → Int32 → Int32 → Option (Int32)) (K15 : (Option Nat) → Int32 → Int32 → Int32 → Option (Int32)) (a0 : Option Nat) (a1 : Int32) (a2 : Int32) (a3 : Int32) : Option (Int32) :=
  K15 a0 a1 a2 (a3 + 1)
theorem vX9_isFree_p53 {h : aH} {K2 : (Option Nat) → Int32 → Int32 → Option (Int32)} {K15 : (Option Nat) → Int32 → Int32 → Int32 → Option (Int32)} {a0 : Option Nat} {a1 : Int32} {a2 : Int32} {a3 : Int32} {q : Int32} (X : aX p l R s m meth c D n0 s0 yX9_isFree cX9_isFree 5 112 4 (some .boolean) h0) (k2 : ∀ (a0 : Option Nat) (a1 : Int32) (a2 : Int32) (q : Int32), K2 a0 a1 a2 = some q → V p l e R s m args below meth c D n0 s0 (aEnd D below args s h0 (.inr (some (.int q)), h)) h 2 [(0, false, va_rf a0), (1, false, .int a1), (2, false, .int a2)] []) (k15 : ∀ (a0 : Option Nat) (a1 : Int32) (a2 : Int32) (a3 : Int32) (q : Int32), K15 a0 a1 a2 a3 = some q → V p l e R s m args below meth c D n0 s0 (aEnd D below args s h0 (.inr (some (.int q)), h)) h 15 [(0, false, va_rf a0), (1, false, .int a1), (2, false, .int a2), (3, false, .int a3)] []) (hf : fX9_isFree_p53 D h K2 K15 a0 a1 a2 a3 = some q) : V p l e R s m args below meth c D n0 s0 (aEnd D below args s h0 (.inr (some (.int q)), h)) h 53 [(0, false, va_rf a0), (1, false, .int a1), (2, false, .int a2), (3, false, .int a3)] [] := by
  have C := X.1
  unfold fX9_isFree_p53 at hf
  refine v_iinc (pc := 53) (j := 3) (v := (a3 + 1)) (lv' := [(3, false, .int (a3 + 1)), (0, false, va_rf a0), (1, false, .int a1), (2, false, .int a2)]) C dX9_isFree_53 rfl rfl (by decide) rfl ?_
  refine v_goto (pc := 56) (tgt := 15) C dX9_isFree_56 rfl ?_
  exact V.sub [1, 2, 3, 0] rfl (k15 _ _ _ _ _ hf)
def fX9_isFree_p59 (D : aD) (h : aH) (K2 : (Option Nat) → Int32 → Int32 → Option (Int32)) (a0 : Option Nat) (a1 : Int32) (a2 : Int32) : Option (Int32) :=
  K2 a0 a1 (a2 + 1)
theorem vX9_isFree_p59 {h : aH} {K2 : (Option Nat) → Int32 → Int32 → Option (Int32)} {a0 : Option Nat} {a1 : Int32} {a2 : Int32} {q : Int32} (X : aX p l R s m meth c D n0 s0 yX9_isFree cX9_isFree 5 112 4 (some .boolean) h0) (k2 : ∀ (a0 : Option Nat) (a1 : Int32) (a2 : Int32) (q : Int32), K2 a0 a1 a2 = some q → V p l e R s m args below meth c D n0 s0 (aEnd D below args s h0 (.inr (some (.int q)), h)) h 2 [(0, false, va_rf a0), (1, false, .int a1), (2, false, .int a2)] []) (hf : fX9_isFree_p59 D h K2 a0 a1 a2 = some q) : V p l e R s m args below meth c D n0 s0 (aEnd D below args s h0 (.inr (some (.int q)), h)) h 59 [(0, false, va_rf a0), (1, false, .int a1), (2, false, .int a2)] [] := by
  have C := X.1
  unfold fX9_isFree_p59 at hf
  refine v_iinc (pc := 59) (j := 2) (v := (a2 + 1)) (lv' := [(2, false, .int (a2 + 1)), (0, false, va_rf a0), (1, false, .int a1)]) C dX9_isFree_59 rfl rfl (by decide) rfl ?_
  refine v_goto (pc := 62) (tgt := 2) C dX9_isFree_62 rfl ?_
  exact V.sub [1, 2, 0] rfl (k2 _ _ _ _ hf)
def fX9_isFree_p15 (D : aD) (h : aH) (K2 : (Option Nat) → Int32 → Int32 → Option (Int32)) : Nat → (Option Nat) → Int32 → Int32 → Int32 → Option (Int32)
  | 0, _, _, _, _ => none
  | n + 1, a0, a1, a2, a3 =>
  (gR h 8 3 a0).bind fun x1 =>
  (aIs h 15 x1).bind fun _ =>
  (fJ2_size D h x1).bind fun x3 =>
  if x3 ≤ a3 then
  (fX9_isFree_p59 D h K2 a0 a1 a2)
  else
  ((fX1_has_2 D h a1 a2).bind fun x6 =>
  if x6 = 0 then
  ((fX1_has_2 D h a1 a3).bind fun x9 =>
  if x9 = 0 then
  ((aIs h 8 a0).bind fun _ =>
  (fX9_clash D h a0 a2 a3).bind fun x12 =>
  if x12 = 0 then
  (fX9_isFree_p53 D h K2 (fX9_isFree_p15 D h K2 n) a0 a1 a2 a3)
  else
  (some (0 : Int32)))
  else
  (fX9_isFree_p53 D h K2 (fX9_isFree_p15 D h K2 n) a0 a1 a2 a3))
  else
  (fX9_isFree_p53 D h K2 (fX9_isFree_p15 D h K2 n) a0 a1 a2 a3))
theorem vX9_isFree_p15 {h : aH} {K2 : (Option Nat) → Int32 → Int32 → Option (Int32)} (X : aX p l R s m meth c D n0 s0 yX9_isFree cX9_isFree 5 112 4 (some .boolean) h0) (k2 : ∀ (a0 : Option Nat) (a1 : Int32) (a2 : Int32) (q : Int32), K2 a0 a1 a2 = some q → V p l e R s m args below meth c D n0 s0 (aEnd D below args s h0 (.inr (some (.int q)), h)) h 2 [(0, false, va_rf a0), (1, false, .int a1), (2, false, .int a2)] []) : ∀ (n : Nat) (a0 : Option Nat) (a1 : Int32) (a2 : Int32) (a3 : Int32) (q : Int32), fX9_isFree_p15 D h K2 n a0 a1 a2 a3 = some q → V p l e R s m args below meth c D n0 s0 (aEnd D below args s h0 (.inr (some (.int q)), h)) h 15 [(0, false, va_rf a0), (1, false, .int a1), (2, false, .int a2), (3, false, .int a3)] [] := by
  have C := X.1
  intro n
  induction n with
  | zero =>
    intro _ _ _ _ _ hf
    rw [fX9_isFree_p15] at hf
    cases hf
  | succ n ih =>
    intro a0 a1 a2 a3 q hf
    rw [fX9_isFree_p15] at hf
    refine v_iload_n (pc := 15) (j := 3) C dX9_isFree_15 rfl rfl ?_
    refine v_aload_n (pc := 16) (j := 0) C dX9_isFree_16 rfl rfl ?_
    obtain ⟨x1, ex1, hf⟩ := oB hf
    refine v_getF (pc := 17) C lk_X9_25 (gR_eq ex1) dX9_isFree_17 ?_
    obtain ⟨b2, eb2, hf⟩ := oB hf
    obtain ⟨rb2, _, kb2⟩ := aIs_eq eb2
    obtain ⟨x3, ex3, hf⟩ := oB hf
    refine v_call (pc := 20) (d_V (pc := 20) C (As := []) (rest := [.int a3]) rb2 kb2 nt_15 q870 yi_J2_size_java_util_ArrayList yk_J2_size rfl (by decide) (by decide) (Nat.le_trans (aw_i aw_0) (by decide)) rfl (mJ2_size C.st ex3) dX9_isFree_20) ?_
    refine v_icmp_ge (pc := 23) (tgt := 59) C dX9_isFree_23 rfl (fun hc => ?_) (fun hc => ?_)
    · rw [if_pos hc] at hf
      exact V.sub [0, 1, 2] rfl (vX9_isFree_p59 X k2 hf)
    · rw [if_neg hc] at hf
      refine v_iload_n (pc := 26) (j := 1) C dX9_isFree_26 rfl rfl ?_
      refine v_iload_n (pc := 27) (j := 2) C dX9_isFree_27 rfl rfl ?_
      obtain ⟨x6, ex6, hf⟩ := oB hf
      refine v_call (pc := 28) (d_SN (pc := 28) C (As := [.int a1, .int a2]) (rest := []) q1243 q1244 yk_X1_has_2 rfl (by decide) (by decide) (Nat.le_trans aw_0 (by decide)) rfl (mX1_has_2 C.st ex6) dX9_isFree_28) ?_
      refine v_if_ne (pc := 31) (tgt := 53) C dX9_isFree_31 rfl (fun hc => ?_) (fun hc => ?_)
      · rw [if_neg hc] at hf
        exact V.sub [0, 1, 2, 3] rfl (vX9_isFree_p53 X k2 ih hf)
      · rw [if_pos (Decidable.of_not_not hc)] at hf
        refine v_iload_n (pc := 34) (j := 1) C dX9_isFree_34 rfl rfl ?_
        refine v_iload_n (pc := 35) (j := 3) C dX9_isFree_35 rfl rfl ?_
        obtain ⟨x9, ex9, hf⟩ := oB hf
        refine v_call (pc := 36) (d_SN (pc := 36) C (As := [.int a1, .int a3]) (rest := []) q1243 q1244 yk_X1_has_2 rfl (by decide) (by decide) (Nat.le_trans aw_0 (by decide)) rfl (mX1_has_2 C.st ex9) dX9_isFree_36) ?_
        refine v_if_ne (pc := 39) (tgt := 53) C dX9_isFree_39 rfl (fun hc => ?_) (fun hc => ?_)
        · rw [if_neg hc] at hf
          exact V.sub [0, 1, 2, 3] rfl (vX9_isFree_p53 X k2 ih hf)
        · rw [if_pos (Decidable.of_not_not hc)] at hf
          refine v_aload_n (pc := 42) (j := 0) C dX9_isFree_42 rfl rfl ?_
          refine v_iload_n (pc := 43) (j := 2) C dX9_isFree_43 rfl rfl ?_
          refine v_iload_n (pc := 44) (j := 3) C dX9_isFree_44 rfl rfl ?_
          obtain ⟨b11, eb11, hf⟩ := oB hf
          obtain ⟨rb11, _, kb11⟩ := aIs_eq eb11
          obtain ⟨x12, ex12, hf⟩ := oB hf
          refine v_call (pc := 45) (d_V (pc := 45) C (As := [.int a2, .int a3]) (rest := []) rb11 kb11 nt_8 q1340 yi_X9_clash_FigureSurvey_Scene yk_X9_clash rfl (by decide) (by decide) (Nat.le_trans aw_0 (by decide)) rfl (mX9_clash C.st ex12) dX9_isFree_45) ?_
          refine v_if_eq (pc := 48) (tgt := 53) C dX9_isFree_48 rfl (fun hc => ?_) (fun hc => ?_)
          · rw [if_pos hc] at hf
            exact V.sub [0, 1, 2, 3] rfl (vX9_isFree_p53 X k2 ih hf)
          · rw [if_neg hc] at hf
            refine v_iconst (pc := 51) (v := (0 : Int32)) C dX9_isFree_51 rfl ?_
            cases hf
            exact v_zreturn (pc := 52) C X.2.1 X.2.2.1 X.2.2.2.1 (by decide) rfl dX9_isFree_52
def fX9_isFree_p2 (D : aD) (h : aH) : Nat → (Option Nat) → Int32 → Int32 → Option (Int32)
  | 0, _, _, _ => none
  | n + 1, a0, a1, a2 =>
  (gR h 8 3 a0).bind fun x1 =>
  (aIs h 15 x1).bind fun _ =>
  (fJ2_size D h x1).bind fun x3 =>
  if x3 ≤ a2 then
  (some (1 : Int32))
  else
  (fX9_isFree_p15 D h (fX9_isFree_p2 D h n) FU a0 a1 a2 (0 : Int32))
theorem vX9_isFree_p2 {h : aH} (X : aX p l R s m meth c D n0 s0 yX9_isFree cX9_isFree 5 112 4 (some .boolean) h0) : ∀ (n : Nat) (a0 : Option Nat) (a1 : Int32) (a2 : Int32) (q : Int32), fX9_isFree_p2 D h n a0 a1 a2 = some q → V p l e R s m args below meth c D n0 s0 (aEnd D below args s h0 (.inr (some (.int q)), h)) h 2 [(0, false, va_rf a0), (1, false, .int a1), (2, false, .int a2)] [] := by
  have C := X.1
  intro n
  induction n with
  | zero =>
    intro _ _ _ _ hf
    rw [fX9_isFree_p2] at hf
    cases hf
  | succ n ih =>
    intro a0 a1 a2 q hf
    rw [fX9_isFree_p2] at hf
    refine v_iload_n (pc := 2) (j := 2) C dX9_isFree_2 rfl rfl ?_
    refine v_aload_n (pc := 3) (j := 0) C dX9_isFree_3 rfl rfl ?_
    obtain ⟨x1, ex1, hf⟩ := oB hf
    refine v_getF (pc := 4) C lk_X9_25 (gR_eq ex1) dX9_isFree_4 ?_
    obtain ⟨b2, eb2, hf⟩ := oB hf
    obtain ⟨rb2, _, kb2⟩ := aIs_eq eb2
    obtain ⟨x3, ex3, hf⟩ := oB hf
    refine v_call (pc := 7) (d_V (pc := 7) C (As := []) (rest := [.int a2]) rb2 kb2 nt_15 q870 yi_J2_size_java_util_ArrayList yk_J2_size rfl (by decide) (by decide) (Nat.le_trans (aw_i aw_0) (by decide)) rfl (mJ2_size C.st ex3) dX9_isFree_7) ?_
    refine v_icmp_ge (pc := 10) (tgt := 65) C dX9_isFree_10 rfl (fun hc => ?_) (fun hc => ?_)
    · rw [if_pos hc] at hf
      refine v_iconst (pc := 65) (v := (1 : Int32)) C dX9_isFree_65 rfl ?_
      cases hf
      exact v_zreturn (pc := 66) C X.2.1 X.2.2.1 X.2.2.2.1 (by decide) rfl dX9_isFree_66
    · rw [if_neg hc] at hf
      refine v_iconst (pc := 13) (v := (0 : Int32)) C dX9_isFree_13 rfl ?_
      refine v_istore_n (pc := 14) (lv' := [(3, false, .int (0 : Int32)), (0, false, va_rf a0), (1, false, .int a1), (2, false, .int a2)]) C dX9_isFree_14 rfl (by decide) rfl ?_
      exact V.sub [1, 2, 3, 0] rfl (vX9_isFree_p15 X ih _ _ _ _ _ _ hf)
def fX9_isFree (D : aD) (h : aH) (a0 : Option Nat) (a1 : Int32) : Option (Int32) :=
  fX9_isFree_p2 D h FU a0 a1 (0 : Int32)
theorem vX9_isFree {h : aH} {a0 : Option Nat} {a1 : Int32} {q : Int32} (X : aX p l R s m meth c D n0 s0 yX9_isFree cX9_isFree 5 112 4 (some .boolean) h0) (hf : fX9_isFree D h a0 a1 = some q) : V p l e R s m args below meth c D n0 s0 (aEnd D below args s h0 (.inr (some (.int q)), h)) h 0 [(0, false, va_rf a0), (1, false, .int a1)] [] := by
  have C := X.1
  unfold fX9_isFree at hf
  refine v_iconst (pc := 0) (v := (0 : Int32)) C dX9_isFree_0 rfl ?_
  refine v_istore_n (pc := 1) (lv' := [(2, false, .int (0 : Int32)), (0, false, va_rf a0), (1, false, .int a1)]) C dX9_isFree_1 rfl (by decide) rfl ?_
  exact V.sub [1, 2, 0] rfl (vX9_isFree_p2 X _ _ _ _ _ hf)
theorem mX9_isFree {l : Launch} {D : aD} {h : aH} {a0 : Option Nat} {a1 : Int32} {q : Int32} (hst : l.stackTraces = false) (hf : fX9_isFree D h a0 a1 = some q) : aM l D yX9_isFree cX9_isFree 4 (some .boolean) 5 112 [va_rf a0, .int a1] h (.inr (some (.int q)), h) :=
  aM.ofX [(false, va_rf a0), (false, .int a1)] rfl (ap_r (ap_c rfl ap_0)) (by decide +kernel) hst (al_of (aw_r (aw_i aw_0)) (by decide)) fun p e s m args below meth c X => V.sub (lv' := [(0, false, va_rf a0), (1, false, .int a1)]) [0, 1] rfl (vX9_isFree X hf)
end SW071
