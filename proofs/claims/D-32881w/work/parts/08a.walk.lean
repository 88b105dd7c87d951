/-! ===== printed: walks ===== -/
set_option maxRecDepth 100000
section SW080
variable {p : Program} {l : Launch} {e : Env} {R : Room} {s : State} {m : MethodId} {args : Array Value} {below : List Frame} {meth : Method} {c : Code} {D : aD} {n0 s0 : Nat} {h0 : aH}
def fX1_count_L1_p22 (D : aD) (K4 : aH → Int32 → (Option Nat) → Int32 → Int32 → Option (Int32 × aH)) (h : aH) (a0 : Int32) (a1 : Option Nat) (a2 : Int32) (a3 : Int32) : Option (Int32 × aH) :=
  K4 h a0 a1 a2 (a3 + 1)
theorem vX1_count_L1_p22 {h : aH} {K4 : aH → Int32 → (Option Nat) → Int32 → Int32 → Option (Int32 × aH)} {a0 : Int32} {a1 : Option Nat} {a2 : Int32} {a3 : Int32} {q : Int32} {g : aH} (X : aX p l R s m meth c D n0 s0 yX1_count cX1_count 8 175 4 (some .int) h0) (k4 : ∀ (h : aH) (a0 : Int32) (a1 : Option Nat) (a2 : Int32) (a3 : Int32) (q : Int32) (g : aH), K4 h a0 a1 a2 a3 = some (q, g) → V p l e R s m args below meth c D n0 s0 (aEnd D below args s h0 (.inr (some (.int q)), g)) h 4 [(0, false, .int a0), (1, false, va_rf a1), (2, false, .int a2), (3, false, .int a3)] []) (hf : fX1_count_L1_p22 D K4 h a0 a1 a2 a3 = some (q, g)) : V p l e R s m args below meth c D n0 s0 (aEnd D below args s h0 (.inr (some (.int q)), g)) h 22 [(0, false, .int a0), (1, false, va_rf a1), (2, false, .int a2), (3, false, .int a3)] [] := by
  have C := X.1
  unfold fX1_count_L1_p22 at hf
  refine v_iinc (pc := 22) (j := 3) (v := (a3 + 1)) (lv' := [(3, false, .int (a3 + 1)), (0, false, .int a0), (1, false, va_rf a1), (2, false, .int a2)]) C dX1_count_22 rfl rfl (by decide) rfl ?_
  refine v_goto (pc := 25) (tgt := 4) C dX1_count_25 rfl ?_
  exact V.sub [1, 2, 3, 0] rfl (k4 _ _ _ _ _ _ _ hf)
def fX1_count_L1_p4 (D : aD) : Nat → aH → Int32 → (Option Nat) → Int32 → Int32 → Option (Int32 × aH)
  | 0, _, _, _, _, _ => none
  | n + 1, h, a0, a1, a2, a3 =>
  if a0 ≤ a3 then
  (some (a2, h))
  else
  (((aLam h 111 a1).bind lmA).bind fun c2 =>
  (aIs h 4 c2).bind fun _ =>
  bnd2 (fX5_lambda_doubt_0 D h c2 a3) fun x3 h4 =>
  (ckZ x3).bind fun _ =>
  fX1_count_L1_p22 D (fX1_count_L1_p4 D n) h4 a0 a1 (if x3 = 0 then a2 else (a2 + 1)) a3)
theorem vX1_count_L1_p4 (X : aX p l R s m meth c D n0 s0 yX1_count cX1_count 8 175 4 (some .int) h0) : ∀ (n : Nat) (h : aH) (a0 : Int32) (a1 : Option Nat) (a2 : Int32) (a3 : Int32) (q : Int32) (g : aH), fX1_count_L1_p4 D n h a0 a1 a2 a3 = some (q, g) → V p l e R s m args below meth c D n0 s0 (aEnd D below args s h0 (.inr (some (.int q)), g)) h 4 [(0, false, .int a0), (1, false, va_rf a1), (2, false, .int a2), (3, false, .int a3)] [] := by
  have C := X.1
  intro n
  induction n with
  | zero =>
    intro _ _ _ _ _ _ _ hf
    rw [fX1_count_L1_p4] at hf
    cases hf
  | succ n ih =>
    intro h a0 a1 a2 a3 q g hf
    rw [fX1_count_L1_p4] at hf
    refine v_iload_n (pc := 4) (j := 3) C dX1_count_4 rfl rfl ?_
    refine v_iload_n (pc := 5) (j := 0) C dX1_count_5 rfl rfl ?_
    refine v_icmp_ge (pc := 6) (tgt := 28) C dX1_count_6 rfl (fun hc => ?_) (fun hc => ?_)
    · rw [if_pos hc] at hf
      refine v_iload_n (pc := 28) (j := 2) C dX1_count_28 rfl rfl ?_
      cases hf
      exact v_ireturn (pc := 29) C X.2.1 X.2.2.1 X.2.2.2.1 rfl dX1_count_29
    · rw [if_neg hc] at hf
      refine v_aload_n (pc := 9) (j := 1) C dX1_count_9 rfl rfl ?_
      refine v_iload_n (pc := 10) (j := 3) C dX1_count_10 rfl rfl ?_
      obtain ⟨c2, eb1, hf⟩ := oB hf
      obtain ⟨b1, rb1, kb1⟩ := lmA_eq eb1
      obtain ⟨db1, fb1, hf⟩ := oB hf
      obtain ⟨rfl, _, gb1⟩ := aIs_eq fb1
      obtain ⟨x3, h4, ex3, hf⟩ := bnd2_eq hf
      obtain ⟨_, zx3, hf⟩ := oB hf
      refine v_call (pc := 11) (d_L (pc := 11) C (k := 1) (xs := [a3]) (As := [.int a3]) (rest := []) lkS_1 lok_1 (by decide +kernel) ⟨rfl, rfl, by decide +kernel⟩ q598 q600 ⟨q599, ⟨by decide +kernel, by decide +kernel⟩⟩ (show (parseMethodDescriptor "(I)Z").map (fun d => d.parameters.length) = some 1 by decide +kernel) rb1 kb1 rfl rfl (hWalkV lDec_1 (show 1 ≤ 3 by decide) (by decide) kb1 rfl gb1 nt_4 yi_X5_lambda_doubt_0_FigureSurvey_Figure yk_X5_lambda_doubt_0 rfl (mX5_lambda_doubt_0 C.st ex3) (Or.inr ⟨rfl, ckZ_eq zx3⟩)) (by decide) (by decide) (Nat.le_trans aw_0 (by decide)) rfl dX1_count_11) ?_
      refine v_if_eq (pc := 16) (tgt := 22) C dX1_count_16 rfl (fun hc => ?_) (fun hc => ?_)
      · simp only [if_pos hc] at hf
        exact V.sub [0, 1, 2, 3] rfl (vX1_count_L1_p22 X ih hf)
      · simp only [if_neg hc] at hf
        refine v_iinc (pc := 19) (j := 2) (v := (a2 + 1)) (lv' := [(2, false, .int (a2 + 1)), (0, false, .int a0), (1, false, va_rf a1), (3, false, .int a3)]) C dX1_count_19 rfl rfl (by decide) rfl ?_
        exact V.sub [1, 2, 0, 3] rfl (vX1_count_L1_p22 X ih hf)
def fX1_count_L1 (D : aD) (h : aH) (a0 : Int32) (a1 : Option Nat) : Option (Int32 × aH) :=
  fX1_count_L1_p4 D FU h a0 a1 (0 : Int32) (0 : Int32)
theorem vX1_count_L1 {h : aH} {a0 : Int32} {a1 : Option Nat} {q : Int32} {g : aH} (X : aX p l R s m meth c D n0 s0 yX1_count cX1_count 8 175 4 (some .int) h0) (hf : fX1_count_L1 D h a0 a1 = some (q, g)) : V p l e R s m args below meth c D n0 s0 (aEnd D below args s h0 (.inr (some (.int q)), g)) h 0 [(0, false, .int a0), (1, false, va_rf a1)] [] := by
  have C := X.1
  unfold fX1_count_L1 at hf
  refine v_iconst (pc := 0) (v := (0 : Int32)) C dX1_count_0 rfl ?_
  refine v_istore_n (pc := 1) (lv' := [(2, false, .int (0 : Int32)), (0, false, .int a0), (1, false, va_rf a1)]) C dX1_count_1 rfl (by decide) rfl ?_
  refine v_iconst (pc := 2) (v := (0 : Int32)) C dX1_count_2 rfl ?_
  refine v_istore_n (pc := 3) (lv' := [(3, false, .int (0 : Int32)), (2, false, .int (0 : Int32)), (0, false, .int a0), (1, false, va_rf a1)]) C dX1_count_3 rfl (by decide) rfl ?_
  exact V.sub [2, 3, 1, 0] rfl (vX1_count_L1_p4 X _ _ _ _ _ _ _ _ hf)
theorem mX1_count_L1 {l : Launch} {D : aD} {h : aH} {a0 : Int32} {a1 : Option Nat} {q : Int32} {g : aH} (hst : l.stackTraces = false) (hf : fX1_count_L1 D h a0 a1 = some (q, g)) : aM l D yX1_count cX1_count 4 (some .int) 8 175 [.int a0, va_rf a1] h (.inr (some (.int q)), g) :=
  aM.ofX [(false, .int a0), (false, va_rf a1)] rfl (ap_c rfl (ap_r ap_0)) (by decide +kernel) hst (al_of (aw_i (aw_r aw_0)) (by decide)) fun p e s m args below meth c X => V.sub (lv' := [(0, false, .int a0), (1, false, va_rf a1)]) [0, 1] rfl (vX1_count_L1 X hf)
def fX5_doubt_p46 (D : aD) (h : aH) (t0 : Int32) (t1 : Int32) : Option (Int32 × aH) :=
  some ((t0 + t1), h)
theorem vX5_doubt_p46 {h : aH} {t0 : Int32} {t1 : Int32} {q : Int32} {g : aH} (X : aX p l R s m meth c D n0 s0 yX5_doubt cX5_doubt 9 3074 3 (some .int) h0) (hf : fX5_doubt_p46 D h t0 t1 = some (q, g)) : V p l e R s m args below meth c D n0 s0 (aEnd D below args s h0 (.inr (some (.int q)), g)) h 46 [] [.int t1, .int t0] := by
  have C := X.1
  unfold fX5_doubt_p46 at hf
  refine v_iadd (pc := 46) C dX5_doubt_46 ?_
  cases hf
  exact v_ireturn (pc := 47) C X.2.1 X.2.2.1 X.2.2.2.1 rfl dX5_doubt_47
def fX5_doubt_p32 (D : aD) (h : aH) (a0 : Option Nat) (t0 : Int32) : Option (Int32 × aH) :=
  (gI h 4 5 a0).bind fun x1 =>
  fX5_doubt_p46 D h x1 (if t0 = 0 then (0 : Int32) else (5 : Int32))
theorem vX5_doubt_p32 {h : aH} {a0 : Option Nat} {t0 : Int32} {q : Int32} {g : aH} (X : aX p l R s m meth c D n0 s0 yX5_doubt cX5_doubt 9 3074 3 (some .int) h0) (hf : fX5_doubt_p32 D h a0 t0 = some (q, g)) : V p l e R s m args below meth c D n0 s0 (aEnd D below args s h0 (.inr (some (.int q)), g)) h 32 [(0, false, va_rf a0)] [.int t0] := by
  have C := X.1
  unfold fX5_doubt_p32 at hf
  refine v_istore_n (pc := 32) (lv' := [(2, false, .int t0), (0, false, va_rf a0)]) C dX5_doubt_32 rfl (by decide) rfl ?_
  refine v_aload_n (pc := 33) (j := 1) C dX5_doubt_33 rfl rfl ?_
  obtain ⟨x1, ex1, hf⟩ := oB hf
  refine v_getF (pc := 34) C lk_X5_54 (gI_eq ex1) dX5_doubt_34 ?_
  refine v_iload_n (pc := 37) (j := 0) C dX5_doubt_37 rfl rfl ?_
  refine v_if_eq (pc := 38) (tgt := 45) C dX5_doubt_38 rfl (fun hc => ?_) (fun hc => ?_)
  · simp only [if_pos hc] at hf
    refine v_iconst (pc := 45) (v := (0 : Int32)) C dX5_doubt_45 rfl ?_
    exact V.sub [] rfl (vX5_doubt_p46 X hf)
  · simp only [if_neg hc] at hf
    refine v_iconst (pc := 41) (v := (5 : Int32)) C dX5_doubt_41 rfl ?_
    refine v_goto (pc := 42) (tgt := 46) C dX5_doubt_42 rfl ?_
    exact V.sub [] rfl (vX5_doubt_p46 X hf)
def fX5_doubt (D : aD) (h : aH) (a0 : Option Nat) : Option (Int32 × aH) :=
  (gR h 4 3 a0).bind fun x1 =>
  (aIs h 15 x1).bind fun _ =>
  (fJ2_size D h x1).bind fun x3 =>
  if x3 < (2 : Int32) then
  (fX5_doubt_p32 D h a0 (0 : Int32))
  else
  ((aMk D h (111, [va_rf a0])).bind fun h5 =>
  bnd2 (fX1_count_L1 D h5 x3 (some h.1)) fun x7 h8 =>
  fX5_doubt_p32 D h8 a0 (if x7 = x3 then (1 : Int32) else (0 : Int32)))
theorem vX5_doubt {h : aH} {a0 : Option Nat} {q : Int32} {g : aH} (X : aX p l R s m meth c D n0 s0 yX5_doubt cX5_doubt 9 3074 3 (some .int) h0) (hf : fX5_doubt D h a0 = some (q, g)) : V p l e R s m args below meth c D n0 s0 (aEnd D below args s h0 (.inr (some (.int q)), g)) h 0 [(0, false, va_rf a0)] [] := by
  have C := X.1
  unfold fX5_doubt at hf
  refine v_aload_n (pc := 0) (j := 0) C dX5_doubt_0 rfl rfl ?_
  obtain ⟨x1, ex1, hf⟩ := oB hf
  refine v_getF (pc := 1) C lk_X5_18 (gR_eq ex1) dX5_doubt_1 ?_
  obtain ⟨b2, eb2, hf⟩ := oB hf
  obtain ⟨rb2, _, kb2⟩ := aIs_eq eb2
  obtain ⟨x3, ex3, hf⟩ := oB hf
  refine v_call (pc := 4) (d_V (pc := 4) C (As := []) (rest := []) rb2 kb2 nt_15 q523 yi_J2_size_java_util_ArrayList yk_J2_size rfl (by decide) (by decide) (Nat.le_trans aw_0 (by decide)) rfl (mJ2_size C.st ex3) dX5_doubt_4) ?_
  refine v_istore_n (pc := 7) (lv' := [(1, false, .int x3), (0, false, va_rf a0)]) C dX5_doubt_7 rfl (by decide) rfl ?_
  refine v_iload_n (pc := 8) (j := 0) C dX5_doubt_8 rfl rfl ?_
  refine v_iconst (pc := 9) (v := (2 : Int32)) C dX5_doubt_9 rfl ?_
  refine v_icmp_lt (pc := 10) (tgt := 31) C dX5_doubt_10 rfl (fun hc => ?_) (fun hc => ?_)
  · rw [if_pos hc] at hf
    refine v_iconst (pc := 31) (v := (0 : Int32)) C dX5_doubt_31 rfl ?_
    exact V.sub [1] rfl (vX5_doubt_p32 X hf)
  · rw [if_neg hc] at hf
    refine v_iload_n (pc := 13) (j := 0) C dX5_doubt_13 rfl rfl ?_
    refine v_aload_n (pc := 14) (j := 1) C dX5_doubt_14 rfl rfl ?_
    obtain ⟨h5, eh5, hf⟩ := oB hf
    refine v_lam (pc := 15) (k := 1) (vals := [va_rf a0]) (rest := [.int x3]) C X.2.2.2.2.2.2 lkS_1 lok_1 rfl (lvl_c rfl ft_o lvl_0) rfl eh5 (Nat.le_trans (Nat.add_le_add_right (aw_r (aw_i aw_0)) _) (by decide)) dX5_doubt_15 ?_
    obtain ⟨x7, h8, ex7, hf⟩ := bnd2_eq hf
    refine v_call (pc := 20) (d_SN (pc := 20) C (As := [.int x3, va_rf (some h.1)]) (rest := []) q594 q595 yk_X1_count rfl (by decide) (by decide) (Nat.le_trans aw_0 (by decide)) rfl (mX1_count_L1 C.st ex7) dX5_doubt_20) ?_
    refine v_iload_n (pc := 23) (j := 0) C dX5_doubt_23 rfl rfl ?_
    refine v_icmp_ne (pc := 24) (tgt := 31) C dX5_doubt_24 rfl (fun hc => ?_) (fun hc => ?_)
    · simp only [if_neg hc] at hf
      refine v_iconst (pc := 31) (v := (0 : Int32)) C dX5_doubt_31 rfl ?_
      exact V.sub [1] rfl (vX5_doubt_p32 X hf)
    · simp only [if_pos (Decidable.of_not_not hc)] at hf
      refine v_iconst (pc := 27) (v := (1 : Int32)) C dX5_doubt_27 rfl ?_
      refine v_goto (pc := 28) (tgt := 32) C dX5_doubt_28 rfl ?_
      exact V.sub [1] rfl (vX5_doubt_p32 X hf)
theorem mX5_doubt {l : Launch} {D : aD} {h : aH} {a0 : Option Nat} {q : Int32} {g : aH} (hst : l.stackTraces = false) (hf : fX5_doubt D h a0 = some (q, g)) : aM l D yX5_doubt cX5_doubt 3 (some .int) 9 3074 [va_rf a0] h (.inr (some (.int q)), g) :=
  aM.ofX [(false, va_rf a0)] rfl (ap_r ap_0) (by decide +kernel) hst (al_of (aw_r aw_0) (by decide)) fun p e s m args below meth c X => V.sub (lv' := [(0, false, va_rf a0)]) [0] rfl (vX5_doubt X hf)
def fX5_isGenuine (D : aD) (h : aH) (a0 : Option Nat) : Option (Int32 × aH) :=
  (aIs h 4 a0).bind fun _ =>
  bnd2 (fX5_doubt D h a0) fun x2 h3 =>
  if (10 : Int32) ≤ x2 then
  (some ((0 : Int32), h3))
  else
  (some ((1 : Int32), h3))
theorem vX5_isGenuine {h : aH} {a0 : Option Nat} {q : Int32} {g : aH} (X : aX p l R s m meth c D n0 s0 yX5_isGenuine cX5_isGenuine 10 3096 1 (some .boolean) h0) (hf : fX5_isGenuine D h a0 = some (q, g)) : V p l e R s m args below meth c D n0 s0 (aEnd D below args s h0 (.inr (some (.int q)), g)) h 0 [(0, false, va_rf a0)] [] := by
  have C := X.1
  unfold fX5_isGenuine at hf
  refine v_aload_n (pc := 0) (j := 0) C dX5_isGenuine_0 rfl rfl ?_
  obtain ⟨b1, eb1, hf⟩ := oB hf
  obtain ⟨rb1, _, kb1⟩ := aIs_eq eb1
  obtain ⟨x2, h3, ex2, hf⟩ := bnd2_eq hf
  refine v_call (pc := 1) (d_V (pc := 1) C (As := []) (rest := []) rb1 kb1 nt_4 q519 yi_X5_doubt_FigureSurvey_Figure yk_X5_doubt rfl (by decide) (by decide) (Nat.le_trans aw_0 (by decide)) rfl (mX5_doubt C.st ex2) dX5_isGenuine_1) ?_
  refine v_bipush (pc := 4) (v := (10 : Int32)) C dX5_isGenuine_4 rfl ?_
  refine v_icmp_ge (pc := 6) (tgt := 13) C dX5_isGenuine_6 rfl (fun hc => ?_) (fun hc => ?_)
  · rw [if_pos hc] at hf
    refine v_iconst (pc := 13) (v := (0 : Int32)) C dX5_isGenuine_13 rfl ?_
    cases hf
    exact v_zreturn (pc := 14) C X.2.1 X.2.2.1 X.2.2.2.1 (by decide) rfl dX5_isGenuine_14
  · rw [if_neg hc] at hf
    refine v_iconst (pc := 9) (v := (1 : Int32)) C dX5_isGenuine_9 rfl ?_
    refine v_goto (pc := 10) (tgt := 14) C dX5_isGenuine_10 rfl ?_
    cases hf
    exact v_zreturn (pc := 14) C X.2.1 X.2.2.1 X.2.2.2.1 (by decide) rfl dX5_isGenuine_14
theorem mX5_isGenuine {l : Launch} {D : aD} {h : aH} {a0 : Option Nat} {q : Int32} {g : aH} (hst : l.stackTraces = false) (hf : fX5_isGenuine D h a0 = some (q, g)) : aM l D yX5_isGenuine cX5_isGenuine 1 (some .boolean) 10 3096 [va_rf a0] h (.inr (some (.int q)), g) :=
  aM.ofX [(false, va_rf a0)] rfl (ap_r ap_0) (by decide +kernel) hst (al_of (aw_r aw_0) (by decide)) fun p e s m args below meth c X => V.sub (lv' := [(0, false, va_rf a0)]) [0] rfl (vX5_isGenuine X hf)
def fX1_lambda_genuineOn_0 (D : aD) (h : aH) (a0 : Option Nat) (a1 : Option Nat) (a2 : Int32) : Option (Int32 × aH) :=
  (gR h 0 3 a0).bind fun x1 =>
  (aIs h 15 x1).bind fun _ =>
  (fJ2_get D h x1 a2).bind fun x3 =>
  (aCast h [4] x3).bind fun _ =>
  (gR h 4 1 x3).bind fun x6 =>
  if x6 = a1 then
  ((gR h 0 3 a0).bind fun x7 =>
  (aIs h 15 x7).bind fun _ =>
  (fJ2_get D h x7 a2).bind fun x9 =>
  (aCast h [4] x9).bind fun _ =>
  (aIs h 4 x9).bind fun _ =>
  bnd2 (fX5_isGenuine D h x9) fun x13 h14 =>
  if x13 = 0 then
  (some ((0 : Int32), h14))
  else
  (some ((1 : Int32), h14)))
  else
  (some ((0 : Int32), h))
theorem vX1_lambda_genuineOn_0 {h : aH} {a0 : Option Nat} {a1 : Option Nat} {a2 : Int32} {q : Int32} {g : aH} (X : aX p l R s m meth c D n0 s0 yX1_lambda_genuineOn_0 cX1_lambda_genuineOn_0 11 3116 3 (some .boolean) h0) (hf : fX1_lambda_genuineOn_0 D h a0 a1 a2 = some (q, g)) : V p l e R s m args below meth c D n0 s0 (aEnd D below args s h0 (.inr (some (.int q)), g)) h 0 [(0, false, va_rf a0), (1, false, va_rf a1), (2, false, .int a2)] [] := by
  have C := X.1
  unfold fX1_lambda_genuineOn_0 at hf
  refine v_aload_n (pc := 0) (j := 0) C dX1_lambda_genuineOn_0_0 rfl rfl ?_
  obtain ⟨x1, ex1, hf⟩ := oB hf
  refine v_getF (pc := 1) C lk_X1_56 (gR_eq ex1) dX1_lambda_genuineOn_0_1 ?_
  refine v_iload_n (pc := 4) (j := 2) C dX1_lambda_genuineOn_0_4 rfl rfl ?_
  obtain ⟨b2, eb2, hf⟩ := oB hf
  obtain ⟨rb2, _, kb2⟩ := aIs_eq eb2
  obtain ⟨x3, ex3, hf⟩ := oB hf
  refine v_call (pc := 5) (d_V (pc := 5) C (As := [.int a2]) (rest := []) rb2 kb2 nt_15 q379 yi_J2_get_java_util_ArrayList yk_J2_get rfl (by decide) (by decide) (Nat.le_trans aw_0 (by decide)) rfl (mJ2_get C.st ex3) dX1_lambda_genuineOn_0_5) ?_
  obtain ⟨_, e5, hf⟩ := oB hf
  refine v_cast (pc := 8) C q514 ct_FigureSurvey_Figure e5 dX1_lambda_genuineOn_0_8 ?_
  obtain ⟨x6, ex6, hf⟩ := oB hf
  refine v_getF (pc := 11) C lk_X1_31 (gR_eq ex6) dX1_lambda_genuineOn_0_11 ?_
  refine v_aload_n (pc := 14) (j := 1) C dX1_lambda_genuineOn_0_14 rfl rfl ?_
  refine v_acmp_ne (pc := 15) (tgt := 39) C dX1_lambda_genuineOn_0_15 rfl (fun hc => ?_) (fun hc => ?_)
  · rw [if_neg hc] at hf
    refine v_iconst (pc := 39) (v := (0 : Int32)) C dX1_lambda_genuineOn_0_39 rfl ?_
    cases hf
    exact v_zreturn (pc := 40) C X.2.1 X.2.2.1 X.2.2.2.1 (by decide) rfl dX1_lambda_genuineOn_0_40
  · rw [if_pos (Decidable.of_not_not hc)] at hf
    refine v_aload_n (pc := 18) (j := 0) C dX1_lambda_genuineOn_0_18 rfl rfl ?_
    obtain ⟨x7, ex7, hf⟩ := oB hf
    refine v_getF (pc := 19) C lk_X1_56 (gR_eq ex7) dX1_lambda_genuineOn_0_19 ?_
    refine v_iload_n (pc := 22) (j := 2) C dX1_lambda_genuineOn_0_22 rfl rfl ?_
    obtain ⟨b8, eb8, hf⟩ := oB hf
    obtain ⟨rb8, _, kb8⟩ := aIs_eq eb8
    obtain ⟨x9, ex9, hf⟩ := oB hf
    refine v_call (pc := 23) (d_V (pc := 23) C (As := [.int a2]) (rest := []) rb8 kb8 nt_15 q379 yi_J2_get_java_util_ArrayList yk_J2_get rfl (by decide) (by decide) (Nat.le_trans aw_0 (by decide)) rfl (mJ2_get C.st ex9) dX1_lambda_genuineOn_0_23) ?_
    obtain ⟨_, e11, hf⟩ := oB hf
    refine v_cast (pc := 26) C q514 ct_FigureSurvey_Figure e11 dX1_lambda_genuineOn_0_26 ?_
    obtain ⟨b12, eb12, hf⟩ := oB hf
    obtain ⟨rb12, _, kb12⟩ := aIs_eq eb12
    obtain ⟨x13, h14, ex13, hf⟩ := bnd2_eq hf
    refine v_call (pc := 29) (d_V (pc := 29) C (As := []) (rest := []) rb12 kb12 nt_4 q515 yi_X5_isGenuine_FigureSurvey_Figure yk_X5_isGenuine rfl (by decide) (by decide) (Nat.le_trans aw_0 (by decide)) rfl (mX5_isGenuine C.st ex13) dX1_lambda_genuineOn_0_29) ?_
    refine v_if_eq (pc := 32) (tgt := 39) C dX1_lambda_genuineOn_0_32 rfl (fun hc => ?_) (fun hc => ?_)
    · rw [if_pos hc] at hf
      refine v_iconst (pc := 39) (v := (0 : Int32)) C dX1_lambda_genuineOn_0_39 rfl ?_
      cases hf
      exact v_zreturn (pc := 40) C X.2.1 X.2.2.1 X.2.2.2.1 (by decide) rfl dX1_lambda_genuineOn_0_40
    · rw [if_neg hc] at hf
      refine v_iconst (pc := 35) (v := (1 : Int32)) C dX1_lambda_genuineOn_0_35 rfl ?_
      refine v_goto (pc := 36) (tgt := 40) C dX1_lambda_genuineOn_0_36 rfl ?_
      cases hf
      exact v_zreturn (pc := 40) C X.2.1 X.2.2.1 X.2.2.2.1 (by decide) rfl dX1_lambda_genuineOn_0_40
theorem mX1_lambda_genuineOn_0 {l : Launch} {D : aD} {h : aH} {a0 : Option Nat} {a1 : Option Nat} {a2 : Int32} {q : Int32} {g : aH} (hst : l.stackTraces = false) (hf : fX1_lambda_genuineOn_0 D h a0 a1 a2 = some (q, g)) : aM l D yX1_lambda_genuineOn_0 cX1_lambda_genuineOn_0 3 (some .boolean) 11 3116 [va_rf a0, va_rf a1, .int a2] h (.inr (some (.int q)), g) :=
  aM.ofX [(false, va_rf a0), (false, va_rf a1), (false, .int a2)] rfl (ap_r (ap_r (ap_c rfl ap_0))) (by decide +kernel) hst (al_of (aw_r (aw_r (aw_i aw_0))) (by decide)) fun p e s m args below meth c X => V.sub (lv' := [(0, false, va_rf a0), (1, false, va_rf a1), (2, false, .int a2)]) [0, 1, 2] rfl (vX1_lambda_genuineOn_0 X hf)
def fX1_count_L0_p22 (D : aD) (K4 : aH → Int32 → (Option Nat) → Int32 → Int32 → Option (Int32 × aH)) (h : aH) (a0 : Int32) (a1 : Option Nat) (a2 : Int32) (a3 : Int32) : Option (Int32 × aH) :=
  K4 h a0 a1 a2 (a3 + 1)
theorem vX1_count_L0_p22 {h : aH} {K4 : aH → Int32 → (Option Nat) → Int32 → Int32 → Option (Int32 × aH)} {a0 : Int32} {a1 : Option Nat} {a2 : Int32} {a3 : Int32} {q : Int32} {g : aH} (X : aX p l R s m meth c D n0 s0 yX1_count cX1_count 13 3159 4 (some .int) h0) (k4 : ∀ (h : aH) (a0 : Int32) (a1 : Option Nat) (a2 : Int32) (a3 : Int32) (q : Int32) (g : aH), K4 h a0 a1 a2 a3 = some (q, g) → V p l e R s m args below meth c D n0 s0 (aEnd D below args s h0 (.inr (some (.int q)), g)) h 4 [(0, false, .int a0), (1, false, va_rf a1), (2, false, .int a2), (3, false, .int a3)] []) (hf : fX1_count_L0_p22 D K4 h a0 a1 a2 a3 = some (q, g)) : V p l e R s m args below meth c D n0 s0 (aEnd D below args s h0 (.inr (some (.int q)), g)) h 22 [(0, false, .int a0), (1, false, va_rf a1), (2, false, .int a2), (3, false, .int a3)] [] := by
  have C := X.1
  unfold fX1_count_L0_p22 at hf
  refine v_iinc (pc := 22) (j := 3) (v := (a3 + 1)) (lv' := [(3, false, .int (a3 + 1)), (0, false, .int a0), (1, false, va_rf a1), (2, false, .int a2)]) C dX1_count_22 rfl rfl (by decide) rfl ?_
  refine v_goto (pc := 25) (tgt := 4) C dX1_count_25 rfl ?_
  exact V.sub [1, 2, 3, 0] rfl (k4 _ _ _ _ _ _ _ hf)
def fX1_count_L0_p4 (D : aD) : Nat → aH → Int32 → (Option Nat) → Int32 → Int32 → Option (Int32 × aH)
  | 0, _, _, _, _, _ => none
  | n + 1, h, a0, a1, a2, a3 =>
  if a0 ≤ a3 then
  (some (a2, h))
  else
  (bnd2 ((aLam h 110 a1).bind lmAA) fun c2 c3 =>
  (aIs h 0 c2).bind fun _ =>
  bnd2 (fX1_lambda_genuineOn_0 D h c2 c3 a3) fun x4 h5 =>
  (ckZ x4).bind fun _ =>
  fX1_count_L0_p22 D (fX1_count_L0_p4 D n) h5 a0 a1 (if x4 = 0 then a2 else (a2 + 1)) a3)
theorem vX1_count_L0_p4 (X : aX p l R s m meth c D n0 s0 yX1_count cX1_count 13 3159 4 (some .int) h0) : ∀ (n : Nat) (h : aH) (a0 : Int32) (a1 : Option Nat) (a2 : Int32) (a3 : Int32) (q : Int32) (g : aH), fX1_count_L0_p4 D n h a0 a1 a2 a3 = some (q, g) → V p l e R s m args below meth c D n0 s0 (aEnd D below args s h0 (.inr (some (.int q)), g)) h 4 [(0, false, .int a0), (1, false, va_rf a1), (2, false, .int a2), (3, false, .int a3)] [] := by
  have C := X.1
  intro n
  induction n with
  | zero =>
    intro _ _ _ _ _ _ _ hf
    rw [fX1_count_L0_p4] at hf
    cases hf
  | succ n ih =>
    intro h a0 a1 a2 a3 q g hf
    rw [fX1_count_L0_p4] at hf
    refine v_iload_n (pc := 4) (j := 3) C dX1_count_4 rfl rfl ?_
    refine v_iload_n (pc := 5) (j := 0) C dX1_count_5 rfl rfl ?_
    refine v_icmp_ge (pc := 6) (tgt := 28) C dX1_count_6 rfl (fun hc => ?_) (fun hc => ?_)
    · rw [if_pos hc] at hf
      refine v_iload_n (pc := 28) (j := 2) C dX1_count_28 rfl rfl ?_
      cases hf
      exact v_ireturn (pc := 29) C X.2.1 X.2.2.1 X.2.2.2.1 rfl dX1_count_29
    · rw [if_neg hc] at hf
      refine v_aload_n (pc := 9) (j := 1) C dX1_count_9 rfl rfl ?_
      refine v_iload_n (pc := 10) (j := 3) C dX1_count_10 rfl rfl ?_
      obtain ⟨c2, c3, eb1, hf⟩ := bnd2_eq hf
      obtain ⟨b1, rb1, kb1⟩ := lmAA_eq eb1
      obtain ⟨db1, fb1, hf⟩ := oB hf
      obtain ⟨rfl, _, gb1⟩ := aIs_eq fb1
      obtain ⟨x4, h5, ex4, hf⟩ := bnd2_eq hf
      obtain ⟨_, zx4, hf⟩ := oB hf
      refine v_call (pc := 11) (d_L (pc := 11) C (k := 0) (xs := [a3]) (As := [.int a3]) (rest := []) lkS_0 lok_0 (by decide +kernel) ⟨rfl, rfl, by decide +kernel⟩ q598 q600 ⟨q599, ⟨by decide +kernel, by decide +kernel⟩⟩ (show (parseMethodDescriptor "(I)Z").map (fun d => d.parameters.length) = some 1 by decide +kernel) rb1 kb1 rfl rfl (hWalkV lDec_0 (show 1 ≤ 3 by decide) (by decide) kb1 rfl gb1 nt_0 yi_X1_lambda_genuineOn_0_FigureSurvey yk_X1_lambda_genuineOn_0 rfl (mX1_lambda_genuineOn_0 C.st ex4) (Or.inr ⟨rfl, ckZ_eq zx4⟩)) (by decide) (by decide) (Nat.le_trans aw_0 (by decide)) rfl dX1_count_11) ?_
      refine v_if_eq (pc := 16) (tgt := 22) C dX1_count_16 rfl (fun hc => ?_) (fun hc => ?_)
      · simp only [if_pos hc] at hf
        exact V.sub [0, 1, 2, 3] rfl (vX1_count_L0_p22 X ih hf)
      · simp only [if_neg hc] at hf
        refine v_iinc (pc := 19) (j := 2) (v := (a2 + 1)) (lv' := [(2, false, .int (a2 + 1)), (0, false, .int a0), (1, false, va_rf a1), (3, false, .int a3)]) C dX1_count_19 rfl rfl (by decide) rfl ?_
        exact V.sub [1, 2, 0, 3] rfl (vX1_count_L0_p22 X ih hf)
def fX1_count_L0 (D : aD) (h : aH) (a0 : Int32) (a1 : Option Nat) : Option (Int32 × aH) :=
  fX1_count_L0_p4 D FU h a0 a1 (0 : Int32) (0 : Int32)
theorem vX1_count_L0 {h : aH} {a0 : Int32} {a1 : Option Nat} {q : Int32} {g : aH} (X : aX p l R s m meth c D n0 s0 yX1_count cX1_count 13 3159 4 (some .int) h0) (hf : fX1_count_L0 D h a0 a1 = some (q, g)) : V p l e R s m args below meth c D n0 s0 (aEnd D below args s h0 (.inr (some (.int q)), g)) h 0 [(0, false, .int a0), (1, false, va_rf a1)] [] := by
  have C := X.1
  unfold fX1_count_L0 at hf
  refine v_iconst (pc := 0) (v := (0 : Int32)) C dX1_count_0 rfl ?_
  refine v_istore_n (pc := 1) (lv' := [(2, false, .int (0 : Int32)), (0, false, .int a0), (1, false, va_rf a1)]) C dX1_count_1 rfl (by decide) rfl ?_
  refine v_iconst (pc := 2) (v := (0 : Int32)) C dX1_count_2 rfl ?_
  refine v_istore_n (pc := 3) (lv' := [(3, false, .int (0 : Int32)), (2, false, .int (0 : Int32)), (0, false, .int a0), (1, false, va_rf a1)]) C dX1_count_3 rfl (by decide) rfl ?_
  exact V.sub [2, 3, 1, 0] rfl (vX1_count_L0_p4 X _ _ _ _ _ _ _ _ hf)
theorem mX1_count_L0 {l : Launch} {D : aD} {h : aH} {a0 : Int32} {a1 : Option Nat} {q : Int32} {g : aH} (hst : l.stackTraces = false) (hf : fX1_count_L0 D h a0 a1 = some (q, g)) : aM l D yX1_count cX1_count 4 (some .int) 13 3159 [.int a0, va_rf a1] h (.inr (some (.int q)), g) :=
  aM.ofX [(false, .int a0), (false, va_rf a1)] rfl (ap_c rfl (ap_r ap_0)) (by decide +kernel) hst (al_of (aw_i (aw_r aw_0)) (by decide)) fun p e s m args below meth c X => V.sub (lv' := [(0, false, .int a0), (1, false, va_rf a1)]) [0, 1] rfl (vX1_count_L0 X hf)
def fX1_genuineOn (D : aD) (h : aH) (a0 : Option Nat) (a1 : Option Nat) : Option (Int32 × aH) :=
  (gR h 0 3 a0).bind fun x1 =>
  (aIs h 15 x1).bind fun _ =>
  (fJ2_size D h x1).bind fun x3 =>
  (aMk D h (110, [va_rf a0, va_rf a1])).bind fun h5 =>
  bnd2 (fX1_count_L0 D h5 x3 (some h.1)) fun x7 h8 =>
  some (x7, h8)
theorem vX1_genuineOn {h : aH} {a0 : Option Nat} {a1 : Option Nat} {q : Int32} {g : aH} (X : aX p l R s m meth c D n0 s0 yX1_genuineOn cX1_genuineOn 14 3182 2 (some .int) h0) (hf : fX1_genuineOn D h a0 a1 = some (q, g)) : V p l e R s m args below meth c D n0 s0 (aEnd D below args s h0 (.inr (some (.int q)), g)) h 0 [(0, false, va_rf a0), (1, false, va_rf a1)] [] := by
  have C := X.1
  unfold fX1_genuineOn at hf
  refine v_aload_n (pc := 0) (j := 0) C dX1_genuineOn_0 rfl rfl ?_
  obtain ⟨x1, ex1, hf⟩ := oB hf
  refine v_getF (pc := 1) C lk_X1_56 (gR_eq ex1) dX1_genuineOn_1 ?_
  obtain ⟨b2, eb2, hf⟩ := oB hf
  obtain ⟨rb2, _, kb2⟩ := aIs_eq eb2
  obtain ⟨x3, ex3, hf⟩ := oB hf
  refine v_call (pc := 4) (d_V (pc := 4) C (As := []) (rest := []) rb2 kb2 nt_15 q375 yi_J2_size_java_util_ArrayList yk_J2_size rfl (by decide) (by decide) (Nat.le_trans aw_0 (by decide)) rfl (mJ2_size C.st ex3) dX1_genuineOn_4) ?_
  refine v_aload_n (pc := 7) (j := 0) C dX1_genuineOn_7 rfl rfl ?_
  refine v_aload_n (pc := 8) (j := 1) C dX1_genuineOn_8 rfl rfl ?_
  obtain ⟨h5, eh5, hf⟩ := oB hf
  refine v_lam (pc := 9) (k := 0) (vals := [va_rf a0, va_rf a1]) (rest := [.int x3]) C X.2.2.2.2.2.2 lkS_0 lok_0 rfl (lvl_c rfl ft_o (lvl_c rfl ft_o lvl_0)) rfl eh5 (Nat.le_trans (Nat.add_le_add_right (aw_r (aw_r (aw_i aw_0))) _) (by decide)) dX1_genuineOn_9 ?_
  obtain ⟨x7, h8, ex7, hf⟩ := bnd2_eq hf
  refine v_call (pc := 14) (d_S (pc := 14) C (As := [.int x3, va_rf (some h.1)]) (rest := []) q601 q595 yk_X1_count rfl (by decide) (by decide) (Nat.le_trans aw_0 (by decide)) rfl (mX1_count_L0 C.st ex7) dX1_genuineOn_14) ?_
  cases hf
  exact v_ireturn (pc := 17) C X.2.1 X.2.2.1 X.2.2.2.1 rfl dX1_genuineOn_17
theorem mX1_genuineOn {l : Launch} {D : aD} {h : aH} {a0 : Option Nat} {a1 : Option Nat} {q : Int32} {g : aH} (hst : l.stackTraces = false) (hf : fX1_genuineOn D h a0 a1 = some (q, g)) : aM l D yX1_genuineOn cX1_genuineOn 2 (some .int) 14 3182 [va_rf a0, va_rf a1] h (.inr (some (.int q)), g) :=
  aM.ofX [(false, va_rf a0), (false, va_rf a1)] rfl (ap_r (ap_r ap_0)) (by decide +kernel) hst (al_of (aw_r (aw_r aw_0)) (by decide)) fun p e s m args below meth c X => V.sub (lv' := [(0, false, va_rf a0), (1, false, va_rf a1)]) [0, 1] rfl (vX1_genuineOn X hf)
def fX15_compare_2 (D : aD) (h : aH) (a0 : Option Nat) (a1 : Option Nat) (a2 : Option Nat) : Option (Int32 × aH) :=
  (gI h 2 1 a1).bind fun x1 =>
  (gI h 2 1 a2).bind fun x2 =>
  if x1 = x2 then
  ((gR h 14 0 a0).bind fun x3 =>
  (aIs h 0 x3).bind fun _ =>
  bnd2 (fX1_genuineOn D h x3 a2) fun x5 h6 =>
  (gR h6 14 0 a0).bind fun x7 =>
  (aIs h6 0 x7).bind fun _ =>
  bnd2 (fX1_genuineOn D h6 x7 a1) fun x9 h10 =>
  (fJ19_compare D h10 x5 x9).bind fun x12 =>
  if x12 = 0 then
  ((gI h10 2 0 a1).bind fun x14 =>
  (gI h10 2 0 a2).bind fun x15 =>
  (fJ19_compare D h10 x14 x15).bind fun x17 =>
  some (x17, h10))
  else
  (some (x12, h10)))
  else
  ((gI h 2 1 a1).bind fun x19 =>
  (gI h 2 1 a2).bind fun x20 =>
  (fJ19_compare D h x19 x20).bind fun x22 =>
  some (x22, h))
theorem vX15_compare_2 {h : aH} {a0 : Option Nat} {a1 : Option Nat} {a2 : Option Nat} {q : Int32} {g : aH} (X : aX p l R s m meth c D n0 s0 yX15_compare_2 cX15_compare_2 15 3203 4 (some .int) h0) (hf : fX15_compare_2 D h a0 a1 a2 = some (q, g)) : V p l e R s m args below meth c D n0 s0 (aEnd D below args s h0 (.inr (some (.int q)), g)) h 0 [(0, false, va_rf a0), (1, false, va_rf a1), (2, false, va_rf a2)] [] := by
  have C := X.1
  unfold fX15_compare_2 at hf
  refine v_aload_n (pc := 0) (j := 1) C dX15_compare_2_0 rfl rfl ?_
  obtain ⟨x1, ex1, hf⟩ := oB hf
  refine v_getF (pc := 1) C lk_X15_13 (gI_eq ex1) dX15_compare_2_1 ?_
  refine v_aload_n (pc := 4) (j := 2) C dX15_compare_2_4 rfl rfl ?_
  obtain ⟨x2, ex2, hf⟩ := oB hf
  refine v_getF (pc := 5) C lk_X15_13 (gI_eq ex2) dX15_compare_2_5 ?_
  refine v_icmp_eq (pc := 8) (tgt := 23) C dX15_compare_2_8 rfl (fun hc => ?_) (fun hc => ?_)
  · rw [if_pos hc] at hf
    refine v_aload_n (pc := 23) (j := 0) C dX15_compare_2_23 rfl rfl ?_
    obtain ⟨x3, ex3, hf⟩ := oB hf
    refine v_getF (pc := 24) C lk_X15_1 (gR_eq ex3) dX15_compare_2_24 ?_
    refine v_aload_n (pc := 27) (j := 2) C dX15_compare_2_27 rfl rfl ?_
    obtain ⟨b4, eb4, hf⟩ := oB hf
    obtain ⟨rb4, _, kb4⟩ := aIs_eq eb4
    obtain ⟨x5, h6, ex5, hf⟩ := bnd2_eq hf
    refine v_call (pc := 28) (d_VN (pc := 28) C (As := [va_rf a2]) (rest := []) rb4 kb4 nt_0 q507 yi_X1_genuineOn_FigureSurvey yk_X1_genuineOn rfl (by decide) (by decide) (Nat.le_trans aw_0 (by decide)) rfl (mX1_genuineOn C.st ex5) dX15_compare_2_28) ?_
    refine v_aload_n (pc := 31) (j := 0) C dX15_compare_2_31 rfl rfl ?_
    obtain ⟨x7, ex7, hf⟩ := oB hf
    refine v_getF (pc := 32) C lk_X15_1 (gR_eq ex7) dX15_compare_2_32 ?_
    refine v_aload_n (pc := 35) (j := 1) C dX15_compare_2_35 rfl rfl ?_
    obtain ⟨b8, eb8, hf⟩ := oB hf
    obtain ⟨rb8, _, kb8⟩ := aIs_eq eb8
    obtain ⟨x9, h10, ex9, hf⟩ := bnd2_eq hf
    refine v_call (pc := 36) (d_VN (pc := 36) C (As := [va_rf a1]) (rest := [.int x5]) rb8 kb8 nt_0 q507 yi_X1_genuineOn_FigureSurvey yk_X1_genuineOn rfl (by decide) (by decide) (Nat.le_trans (aw_i aw_0) (by decide)) rfl (mX1_genuineOn C.st ex9) dX15_compare_2_36) ?_
    obtain ⟨x12, ex12, hf⟩ := oB hf
    refine v_call (pc := 39) (d_S (pc := 39) C (As := [.int x5, .int x9]) (rest := []) q504 q505 yk_J19_compare rfl (by decide) (by decide) (Nat.le_trans aw_0 (by decide)) rfl (mJ19_compare C.st ex12) dX15_compare_2_39) ?_
    refine v_istore_n (pc := 42) (lv' := [(3, false, .int x12), (0, false, va_rf a0), (1, false, va_rf a1), (2, false, va_rf a2)]) C dX15_compare_2_42 rfl (by decide) rfl ?_
    refine v_iload_n (pc := 43) (j := 0) C dX15_compare_2_43 rfl rfl ?_
    refine v_if_eq (pc := 44) (tgt := 51) C dX15_compare_2_44 rfl (fun hc => ?_) (fun hc => ?_)
    · rw [if_pos hc] at hf
      refine v_aload_n (pc := 51) (j := 2) C dX15_compare_2_51 rfl rfl ?_
      obtain ⟨x14, ex14, hf⟩ := oB hf
      refine v_getF (pc := 52) C lk_X15_31 (gI_eq ex14) dX15_compare_2_52 ?_
      refine v_aload_n (pc := 55) (j := 3) C dX15_compare_2_55 rfl rfl ?_
      obtain ⟨x15, ex15, hf⟩ := oB hf
      refine v_getF (pc := 56) C lk_X15_31 (gI_eq ex15) dX15_compare_2_56 ?_
      obtain ⟨x17, ex17, hf⟩ := oB hf
      refine v_call (pc := 59) (d_S (pc := 59) C (As := [.int x14, .int x15]) (rest := []) q504 q505 yk_J19_compare rfl (by decide) (by decide) (Nat.le_trans aw_0 (by decide)) rfl (mJ19_compare C.st ex17) dX15_compare_2_59) ?_
      cases hf
      exact v_ireturn (pc := 62) C X.2.1 X.2.2.1 X.2.2.2.1 rfl dX15_compare_2_62
    · rw [if_neg hc] at hf
      refine v_iload_n (pc := 47) (j := 0) C dX15_compare_2_47 rfl rfl ?_
      refine v_goto (pc := 48) (tgt := 62) C dX15_compare_2_48 rfl ?_
      cases hf
      exact v_ireturn (pc := 62) C X.2.1 X.2.2.1 X.2.2.2.1 rfl dX15_compare_2_62
  · rw [if_neg hc] at hf
    refine v_aload_n (pc := 11) (j := 1) C dX15_compare_2_11 rfl rfl ?_
    obtain ⟨x19, ex19, hf⟩ := oB hf
    refine v_getF (pc := 12) C lk_X15_13 (gI_eq ex19) dX15_compare_2_12 ?_
    refine v_aload_n (pc := 15) (j := 2) C dX15_compare_2_15 rfl rfl ?_
    obtain ⟨x20, ex20, hf⟩ := oB hf
    refine v_getF (pc := 16) C lk_X15_13 (gI_eq ex20) dX15_compare_2_16 ?_
    obtain ⟨x22, ex22, hf⟩ := oB hf
    refine v_call (pc := 19) (d_S (pc := 19) C (As := [.int x19, .int x20]) (rest := []) q504 q505 yk_J19_compare rfl (by decide) (by decide) (Nat.le_trans aw_0 (by decide)) rfl (mJ19_compare C.st ex22) dX15_compare_2_19) ?_
    cases hf
    exact v_ireturn (pc := 22) C X.2.1 X.2.2.1 X.2.2.2.1 rfl dX15_compare_2_22
theorem mX15_compare_2 {l : Launch} {D : aD} {h : aH} {a0 : Option Nat} {a1 : Option Nat} {a2 : Option Nat} {q : Int32} {g : aH} (hst : l.stackTraces = false) (hf : fX15_compare_2 D h a0 a1 a2 = some (q, g)) : aM l D yX15_compare_2 cX15_compare_2 4 (some .int) 15 3203 [va_rf a0, va_rf a1, va_rf a2] h (.inr (some (.int q)), g) :=
  aM.ofX [(false, va_rf a0), (false, va_rf a1), (false, va_rf a2)] rfl (ap_r (ap_r (ap_r ap_0))) (by decide +kernel) hst (al_of (aw_r (aw_r (aw_r aw_0))) (by decide)) fun p e s m args below meth c X => V.sub (lv' := [(0, false, va_rf a0), (1, false, va_rf a1), (2, false, va_rf a2)]) [0, 1, 2] rfl (vX15_compare_2 X hf)
def fX15_compare (D : aD) (h : aH) (a0 : Option Nat) (a1 : Option Nat) (a2 : Option Nat) : Option (Int32 × aH) :=
  (aCast h [2] a1).bind fun _ =>
  (aCast h [2] a2).bind fun _ =>
  (aIs h 14 a0).bind fun _ =>
  bnd2 (fX15_compare_2 D h a0 a1 a2) fun x4 h5 =>
  some (x4, h5)
theorem vX15_compare {h : aH} {a0 : Option Nat} {a1 : Option Nat} {a2 : Option Nat} {q : Int32} {g : aH} (X : aX p l R s m meth c D n0 s0 yX15_compare cX15_compare 16 3226 3 (some .int) h0) (hf : fX15_compare D h a0 a1 a2 = some (q, g)) : V p l e R s m args below meth c D n0 s0 (aEnd D below args s h0 (.inr (some (.int q)), g)) h 0 [(0, false, va_rf a0), (1, false, va_rf a1), (2, false, va_rf a2)] [] := by
  have C := X.1
  unfold fX15_compare at hf
  refine v_aload_n (pc := 0) (j := 0) C dX15_compare_0 rfl rfl ?_
  refine v_aload_n (pc := 1) (j := 1) C dX15_compare_1 rfl rfl ?_
  obtain ⟨_, e1, hf⟩ := oB hf
  refine v_cast (pc := 2) C q499 ct_FigureSurvey_Panel e1 dX15_compare_2 ?_
  refine v_aload_n (pc := 5) (j := 2) C dX15_compare_5 rfl rfl ?_
  obtain ⟨_, e2, hf⟩ := oB hf
  refine v_cast (pc := 6) C q499 ct_FigureSurvey_Panel e2 dX15_compare_6 ?_
  obtain ⟨b3, eb3, hf⟩ := oB hf
  obtain ⟨rb3, _, kb3⟩ := aIs_eq eb3
  obtain ⟨x4, h5, ex4, hf⟩ := bnd2_eq hf
  refine v_call (pc := 9) (d_V (pc := 9) C (As := [va_rf a1, va_rf a2]) (rest := []) rb3 kb3 nt_14 q500 yi_X15_compare_2_FigureSurvey_ByNeed yk_X15_compare_2 rfl (by decide) (by decide) (Nat.le_trans aw_0 (by decide)) rfl (mX15_compare_2 C.st ex4) dX15_compare_9) ?_
  cases hf
  exact v_ireturn (pc := 12) C X.2.1 X.2.2.1 X.2.2.2.1 rfl dX15_compare_12
theorem mX15_compare {l : Launch} {D : aD} {h : aH} {a0 : Option Nat} {a1 : Option Nat} {a2 : Option Nat} {q : Int32} {g : aH} (hst : l.stackTraces = false) (hf : fX15_compare D h a0 a1 a2 = some (q, g)) : aM l D yX15_compare cX15_compare 3 (some .int) 16 3226 [va_rf a0, va_rf a1, va_rf a2] h (.inr (some (.int q)), g) :=
  aM.ofX [(false, va_rf a0), (false, va_rf a1), (false, va_rf a2)] rfl (ap_r (ap_r (ap_r ap_0))) (by decide +kernel) hst (al_of (aw_r (aw_r (aw_r aw_0))) (by decide)) fun p e s m args below meth c X => V.sub (lv' := [(0, false, va_rf a0), (1, false, va_rf a1), (2, false, va_rf a2)]) [0, 1, 2] rfl (vX15_compare X hf)
def fX1_count_L6_p22 (D : aD) (h : aH) (K4 : Int32 → (Option Nat) → Int32 → Int32 → Option (Int32)) (a0 : Int32) (a1 : Option Nat) (a2 : Int32) (a3 : Int32) : Option (Int32) :=
  K4 a0 a1 a2 (a3 + 1)
theorem vX1_count_L6_p22 {h : aH} {K4 : Int32 → (Option Nat) → Int32 → Int32 → Option (Int32)} {a0 : Int32} {a1 : Option Nat} {a2 : Int32} {a3 : Int32} {q : Int32} (X : aX p l R s m meth c D n0 s0 yX1_count cX1_count 4 87 4 (some .int) h0) (k4 : ∀ (a0 : Int32) (a1 : Option Nat) (a2 : Int32) (a3 : Int32) (q : Int32), K4 a0 a1 a2 a3 = some q → V p l e R s m args below meth c D n0 s0 (aEnd D below args s h0 (.inr (some (.int q)), h)) h 4 [(0, false, .int a0), (1, false, va_rf a1), (2, false, .int a2), (3, false, .int a3)] []) (hf : fX1_count_L6_p22 D h K4 a0 a1 a2 a3 = some q) : V p l e R s m args below meth c D n0 s0 (aEnd D below args s h0 (.inr (some (.int q)), h)) h 22 [(0, false, .int a0), (1, false, va_rf a1), (2, false, .int a2), (3, false, .int a3)] [] := by
  have C := X.1
  unfold fX1_count_L6_p22 at hf
  refine v_iinc (pc := 22) (j := 3) (v := (a3 + 1)) (lv' := [(3, false, .int (a3 + 1)), (0, false, .int a0), (1, false, va_rf a1), (2, false, .int a2)]) C dX1_count_22 rfl rfl (by decide) rfl ?_
  refine v_goto (pc := 25) (tgt := 4) C dX1_count_25 rfl ?_
  exact V.sub [1, 2, 3, 0] rfl (k4 _ _ _ _ _ hf)
def fX1_count_L6_p4 (D : aD) (h : aH) : Nat → Int32 → (Option Nat) → Int32 → Int32 → Option (Int32)
  | 0, _, _, _, _ => none
  | n + 1, a0, a1, a2, a3 =>
  if a0 ≤ a3 then
  (some a2)
  else
  (bnd2 ((aLam h 116 a1).bind lmAI) fun c2 c3 =>
  (aIs h 2 c2).bind fun _ =>
  (fX3_lambda_seen_0 D h c2 c3 a3).bind fun x4 =>
  (ckZ x4).bind fun _ =>
  fX1_count_L6_p22 D h (fX1_count_L6_p4 D h n) a0 a1 (if x4 = 0 then a2 else (a2 + 1)) a3)
theorem vX1_count_L6_p4 {h : aH} (X : aX p l R s m meth c D n0 s0 yX1_count cX1_count 4 87 4 (some .int) h0) : ∀ (n : Nat) (a0 : Int32) (a1 : Option Nat) (a2 : Int32) (a3 : Int32) (q : Int32), fX1_count_L6_p4 D h n a0 a1 a2 a3 = some q → V p l e R s m args below meth c D n0 s0 (aEnd D below args s h0 (.inr (some (.int q)), h)) h 4 [(0, false, .int a0), (1, false, va_rf a1), (2, false, .int a2), (3, false, .int a3)] [] := by
  have C := X.1
  intro n
  induction n with
  | zero =>
    intro _ _ _ _ _ hf
    rw [fX1_count_L6_p4] at hf
    cases hf
  | succ n ih =>
    intro a0 a1 a2 a3 q hf
    rw [fX1_count_L6_p4] at hf
    refine v_iload_n (pc := 4) (j := 3) C dX1_count_4 rfl rfl ?_
    refine v_iload_n (pc := 5) (j := 0) C dX1_count_5 rfl rfl ?_
    refine v_icmp_ge (pc := 6) (tgt := 28) C dX1_count_6 rfl (fun hc => ?_) (fun hc => ?_)
    · rw [if_pos hc] at hf
      refine v_iload_n (pc := 28) (j := 2) C dX1_count_28 rfl rfl ?_
      cases hf
      exact v_ireturn (pc := 29) C X.2.1 X.2.2.1 X.2.2.2.1 rfl dX1_count_29
    · rw [if_neg hc] at hf
      refine v_aload_n (pc := 9) (j := 1) C dX1_count_9 rfl rfl ?_
      refine v_iload_n (pc := 10) (j := 3) C dX1_count_10 rfl rfl ?_
      obtain ⟨c2, c3, eb1, hf⟩ := bnd2_eq hf
      obtain ⟨b1, rb1, kb1⟩ := lmAI_eq eb1
      obtain ⟨db1, fb1, hf⟩ := oB hf
      obtain ⟨rfl, _, gb1⟩ := aIs_eq fb1
      obtain ⟨x4, ex4, hf⟩ := oB hf
      obtain ⟨_, zx4, hf⟩ := oB hf
      refine v_call (pc := 11) (d_L (pc := 11) C (k := 6) (xs := [a3]) (As := [.int a3]) (rest := []) lkS_6 lok_6 (by decide +kernel) ⟨rfl, rfl, by decide +kernel⟩ q598 q600 ⟨q599, ⟨by decide +kernel, by decide +kernel⟩⟩ (show (parseMethodDescriptor "(I)Z").map (fun d => d.parameters.length) = some 1 by decide +kernel) rb1 kb1 rfl rfl (hWalkV lDec_6 (show 1 ≤ 3 by decide) (by decide) kb1 rfl gb1 nt_2 yi_X3_lambda_seen_0_FigureSurvey_Panel yk_X3_lambda_seen_0 rfl (mX3_lambda_seen_0 C.st ex4) (Or.inr ⟨rfl, ckZ_eq zx4⟩)) (by decide) (by decide) (Nat.le_trans aw_0 (by decide)) rfl dX1_count_11) ?_
      refine v_if_eq (pc := 16) (tgt := 22) C dX1_count_16 rfl (fun hc => ?_) (fun hc => ?_)
      · simp only [if_pos hc] at hf
        exact V.sub [0, 1, 2, 3] rfl (vX1_count_L6_p22 X ih hf)
      · simp only [if_neg hc] at hf
        refine v_iinc (pc := 19) (j := 2) (v := (a2 + 1)) (lv' := [(2, false, .int (a2 + 1)), (0, false, .int a0), (1, false, va_rf a1), (3, false, .int a3)]) C dX1_count_19 rfl rfl (by decide) rfl ?_
        exact V.sub [1, 2, 0, 3] rfl (vX1_count_L6_p22 X ih hf)
def fX1_count_L6 (D : aD) (h : aH) (a0 : Int32) (a1 : Option Nat) : Option (Int32) :=
  fX1_count_L6_p4 D h FU a0 a1 (0 : Int32) (0 : Int32)
theorem vX1_count_L6 {h : aH} {a0 : Int32} {a1 : Option Nat} {q : Int32} (X : aX p l R s m meth c D n0 s0 yX1_count cX1_count 4 87 4 (some .int) h0) (hf : fX1_count_L6 D h a0 a1 = some q) : V p l e R s m args below meth c D n0 s0 (aEnd D below args s h0 (.inr (some (.int q)), h)) h 0 [(0, false, .int a0), (1, false, va_rf a1)] [] := by
  have C := X.1
  unfold fX1_count_L6 at hf
  refine v_iconst (pc := 0) (v := (0 : Int32)) C dX1_count_0 rfl ?_
  refine v_istore_n (pc := 1) (lv' := [(2, false, .int (0 : Int32)), (0, false, .int a0), (1, false, va_rf a1)]) C dX1_count_1 rfl (by decide) rfl ?_
  refine v_iconst (pc := 2) (v := (0 : Int32)) C dX1_count_2 rfl ?_
  refine v_istore_n (pc := 3) (lv' := [(3, false, .int (0 : Int32)), (2, false, .int (0 : Int32)), (0, false, .int a0), (1, false, va_rf a1)]) C dX1_count_3 rfl (by decide) rfl ?_
  exact V.sub [2, 3, 1, 0] rfl (vX1_count_L6_p4 X _ _ _ _ _ _ hf)
theorem mX1_count_L6 {l : Launch} {D : aD} {h : aH} {a0 : Int32} {a1 : Option Nat} {q : Int32} (hst : l.stackTraces = false) (hf : fX1_count_L6 D h a0 a1 = some q) : aM l D yX1_count cX1_count 4 (some .int) 4 87 [.int a0, va_rf a1] h (.inr (some (.int q)), h) :=
  aM.ofX [(false, .int a0), (false, va_rf a1)] rfl (ap_c rfl (ap_r ap_0)) (by decide +kernel) hst (al_of (aw_i (aw_r aw_0)) (by decide)) fun p e s m args below meth c X => V.sub (lv' := [(0, false, .int a0), (1, false, va_rf a1)]) [0, 1] rfl (vX1_count_L6 X hf)
def fX3_seen (D : aD) (h : aH) (a0 : Option Nat) (a1 : Int32) : Option (Int32 × aH) :=
  (aMk D h (116, [va_rf a0, .int a1])).bind fun h1 =>
  (fX1_count_L6 D h1 (4 : Int32) (some h.1)).bind fun x3 =>
  some (x3, h1)
theorem vX3_seen {h : aH} {a0 : Option Nat} {a1 : Int32} {q : Int32} {g : aH} (X : aX p l R s m meth c D n0 s0 yX3_seen cX3_seen 5 3075 2 (some .int) h0) (hf : fX3_seen D h a0 a1 = some (q, g)) : V p l e R s m args below meth c D n0 s0 (aEnd D below args s h0 (.inr (some (.int q)), g)) h 0 [(0, false, va_rf a0), (1, false, .int a1)] [] := by
  have C := X.1
  unfold fX3_seen at hf
  refine v_iconst (pc := 0) (v := (4 : Int32)) C dX3_seen_0 rfl ?_
  refine v_aload_n (pc := 1) (j := 0) C dX3_seen_1 rfl rfl ?_
  refine v_iload_n (pc := 2) (j := 1) C dX3_seen_2 rfl rfl ?_
  obtain ⟨h1, eh1, hf⟩ := oB hf
  refine v_lam (pc := 3) (k := 6) (vals := [va_rf a0, .int a1]) (rest := [.int (4 : Int32)]) C X.2.2.2.2.2.2 lkS_6 lok_6 rfl (lvl_c rfl ft_o (lvl_c rfl rfl lvl_0)) rfl eh1 (Nat.le_trans (Nat.add_le_add_right (aw_i (aw_r (aw_i aw_0))) _) (by decide)) dX3_seen_3 ?_
  obtain ⟨x3, ex3, hf⟩ := oB hf
  refine v_call (pc := 8) (d_SN (pc := 8) C (As := [.int (4 : Int32), va_rf (some h.1)]) (rest := []) q1752 q595 yk_X1_count rfl (by decide) (by decide) (Nat.le_trans aw_0 (by decide)) rfl (mX1_count_L6 C.st ex3) dX3_seen_8) ?_
  cases hf
  exact v_ireturn (pc := 11) C X.2.1 X.2.2.1 X.2.2.2.1 rfl dX3_seen_11
theorem mX3_seen {l : Launch} {D : aD} {h : aH} {a0 : Option Nat} {a1 : Int32} {q : Int32} {g : aH} (hst : l.stackTraces = false) (hf : fX3_seen D h a0 a1 = some (q, g)) : aM l D yX3_seen cX3_seen 2 (some .int) 5 3075 [va_rf a0, .int a1] h (.inr (some (.int q)), g) :=
  aM.ofX [(false, va_rf a0), (false, .int a1)] rfl (ap_r (ap_c rfl ap_0)) (by decide +kernel) hst (al_of (aw_r (aw_i aw_0)) (by decide)) fun p e s m args below meth c X => V.sub (lv' := [(0, false, va_rf a0), (1, false, .int a1)]) [0, 1] rfl (vX3_seen X hf)
def fX3_edges_p29 (D : aD) (K5 : aH → (Option Nat) → Int32 → Int64 → Int32 → Option (Int64 × aH)) (h : aH) (a0 : Option Nat) (a1 : Int32) (a2 : Int64) (a4 : Int32) : Option (Int64 × aH) :=
  K5 h a0 a1 a2 (a4 + 1)
theorem vX3_edges_p29 {h : aH} {K5 : aH → (Option Nat) → Int32 → Int64 → Int32 → Option (Int64 × aH)} {a0 : Option Nat} {a1 : Int32} {a2 : Int64} {a4 : Int32} {q : Int64} {g : aH} (X : aX p l R s m meth c D n0 s0 yX3_edges cX3_edges 6 3096 5 (some .long) h0) (k5 : ∀ (h : aH) (a0 : Option Nat) (a1 : Int32) (a2 : Int64) (a4 : Int32) (q : Int64) (g : aH), K5 h a0 a1 a2 a4 = some (q, g) → V p l e R s m args below meth c D n0 s0 (aEnd D below args s h0 (.inr (some (.long q)), g)) h 5 [(0, false, va_rf a0), (1, false, .int a1), (2, true, .long a2), (4, false, .int a4)] []) (hf : fX3_edges_p29 D K5 h a0 a1 a2 a4 = some (q, g)) : V p l e R s m args below meth c D n0 s0 (aEnd D below args s h0 (.inr (some (.long q)), g)) h 29 [(0, false, va_rf a0), (1, false, .int a1), (2, true, .long a2), (4, false, .int a4)] [] := by
  have C := X.1
  unfold fX3_edges_p29 at hf
  refine v_iinc (pc := 29) (j := 3) (v := (a4 + 1)) (lv' := [(4, false, .int (a4 + 1)), (0, false, va_rf a0), (1, false, .int a1), (2, true, .long a2)]) C dX3_edges_29 rfl rfl (by decide) rfl ?_
  refine v_goto (pc := 32) (tgt := 5) C dX3_edges_32 rfl ?_
  exact V.sub [1, 2, 3, 0] rfl (k5 _ _ _ _ _ _ _ hf)
def fX3_edges_p35 (D : aD) (h : aH) (a2 : Int64) : Option (Int64 × aH) :=
  some (a2, h)
theorem vX3_edges_p35 {h : aH} {a2 : Int64} {q : Int64} {g : aH} (X : aX p l R s m meth c D n0 s0 yX3_edges cX3_edges 6 3096 5 (some .long) h0) (hf : fX3_edges_p35 D h a2 = some (q, g)) : V p l e R s m args below meth c D n0 s0 (aEnd D below args s h0 (.inr (some (.long q)), g)) h 35 [(2, true, .long a2)] [] := by
  have C := X.1
  unfold fX3_edges_p35 at hf
  refine v_lload_n (pc := 35) (j := 0) C dX3_edges_35 rfl rfl ?_
  cases hf
  exact v_lreturn (pc := 36) C X.2.1 X.2.2.1 X.2.2.2.1 rfl dX3_edges_36
def fX3_edges_p5 (D : aD) : Nat → aH → (Option Nat) → Int32 → Int64 → Int32 → Option (Int64 × aH)
  | 0, _, _, _, _, _ => none
  | n + 1, h, a0, a1, a2, a4 =>
  if (64 : Int32) ≤ a4 then
  (fX3_edges_p35 D h a2)
  else
  ((aIs h 2 a0).bind fun _ =>
  bnd2 (fX3_seen D h a0 a4) fun x2 h3 =>
  if x2 < a1 then
  (fX3_edges_p29 D (fX3_edges_p5 D n) h3 a0 a1 a2 a4)
  else
  ((some ((a2 ||| ((1 : Int64) <<< (a4.toInt64 &&& 63))))).bind fun x4 =>
  fX3_edges_p29 D (fX3_edges_p5 D n) h3 a0 a1 x4 a4))
theorem vX3_edges_p5 (X : aX p l R s m meth c D n0 s0 yX3_edges cX3_edges 6 3096 5 (some .long) h0) : ∀ (n : Nat) (h : aH) (a0 : Option Nat) (a1 : Int32) (a2 : Int64) (a4 : Int32) (q : Int64) (g : aH), fX3_edges_p5 D n h a0 a1 a2 a4 = some (q, g) → V p l e R s m args below meth c D n0 s0 (aEnd D below args s h0 (.inr (some (.long q)), g)) h 5 [(0, false, va_rf a0), (1, false, .int a1), (2, true, .long a2), (4, false, .int a4)] [] := by
  have C := X.1
  intro n
  induction n with
  | zero =>
    intro _ _ _ _ _ _ _ hf
    rw [fX3_edges_p5] at hf
    cases hf
  | succ n ih =>
    intro h a0 a1 a2 a4 q g hf
    rw [fX3_edges_p5] at hf
    refine v_iload (pc := 5) (j := 3) C dX3_edges_5 rfl ?_
    refine v_bipush (pc := 7) (v := (64 : Int32)) C dX3_edges_7 rfl ?_
    refine v_icmp_ge (pc := 9) (tgt := 35) C dX3_edges_9 rfl (fun hc => ?_) (fun hc => ?_)
    · rw [if_pos hc] at hf
      exact V.sub [2] rfl (vX3_edges_p35 X hf)
    · rw [if_neg hc] at hf
      refine v_aload_n (pc := 12) (j := 0) C dX3_edges_12 rfl rfl ?_
      refine v_iload (pc := 13) (j := 3) C dX3_edges_13 rfl ?_
      obtain ⟨b1, eb1, hf⟩ := oB hf
      obtain ⟨rb1, _, kb1⟩ := aIs_eq eb1
      obtain ⟨x2, h3, ex2, hf⟩ := bnd2_eq hf
      refine v_call (pc := 15) (d_V (pc := 15) C (As := [.int a4]) (rest := []) rb1 kb1 nt_2 q1764 yi_X3_seen_FigureSurvey_Panel yk_X3_seen rfl (by decide) (by decide) (Nat.le_trans aw_0 (by decide)) rfl (mX3_seen C.st ex2) dX3_edges_15) ?_
      refine v_iload_n (pc := 18) (j := 1) C dX3_edges_18 rfl rfl ?_
      refine v_icmp_lt (pc := 19) (tgt := 29) C dX3_edges_19 rfl (fun hc => ?_) (fun hc => ?_)
      · rw [if_pos hc] at hf
        exact V.sub [0, 1, 2, 3] rfl (vX3_edges_p29 X ih hf)
      · rw [if_neg hc] at hf
        refine v_lload_n (pc := 22) (j := 2) C dX3_edges_22 rfl rfl ?_
        refine v_lconst (pc := 23) (v := (1 : Int64)) C dX3_edges_23 rfl ?_
        refine v_iload (pc := 24) (j := 3) C dX3_edges_24 rfl ?_
        refine v_lshl (pc := 26) C dX3_edges_26 ?_
        refine v_lor (pc := 27) C dX3_edges_27 ?_
        obtain ⟨x4, ex4, hf⟩ := oB hf
        refine vst (Option.some.inj ex4) (fun z => .long z :: []) ?_
        refine v_lstore_n (pc := 28) (lv' := [(2, true, .long x4), (0, false, va_rf a0), (1, false, .int a1), (4, false, .int a4)]) C dX3_edges_28 rfl (by decide) rfl ?_
        exact V.sub [1, 2, 0, 3] rfl (vX3_edges_p29 X ih hf)
def fX3_edges (D : aD) (h : aH) (a0 : Option Nat) (a1 : Int32) : Option (Int64 × aH) :=
  fX3_edges_p5 D FU h a0 a1 (0 : Int64) (0 : Int32)
theorem vX3_edges {h : aH} {a0 : Option Nat} {a1 : Int32} {q : Int64} {g : aH} (X : aX p l R s m meth c D n0 s0 yX3_edges cX3_edges 6 3096 5 (some .long) h0) (hf : fX3_edges D h a0 a1 = some (q, g)) : V p l e R s m args below meth c D n0 s0 (aEnd D below args s h0 (.inr (some (.long q)), g)) h 0 [(0, false, va_rf a0), (1, false, .int a1)] [] := by
  have C := X.1
  unfold fX3_edges at hf
  refine v_lconst (pc := 0) (v := (0 : Int64)) C dX3_edges_0 rfl ?_
  refine v_lstore_n (pc := 1) (lv' := [(2, true, .long (0 : Int64)), (0, false, va_rf a0), (1, false, .int a1)]) C dX3_edges_1 rfl (by decide) rfl ?_
  refine v_iconst (pc := 2) (v := (0 : Int32)) C dX3_edges_2 rfl ?_
  refine v_istore (pc := 3) (lv' := [(4, false, .int (0 : Int32)), (2, true, .long (0 : Int64)), (0, false, va_rf a0), (1, false, .int a1)]) C dX3_edges_3 (by decide) rfl ?_
  exact V.sub [2, 3, 1, 0] rfl (vX3_edges_p5 X _ _ _ _ _ _ _ _ hf)
theorem mX3_edges {l : Launch} {D : aD} {h : aH} {a0 : Option Nat} {a1 : Int32} {q : Int64} {g : aH} (hst : l.stackTraces = false) (hf : fX3_edges D h a0 a1 = some (q, g)) : aM l D yX3_edges cX3_edges 5 (some .long) 6 3096 [va_rf a0, .int a1] h (.inr (some (.long q)), g) :=
  aM.ofX [(false, va_rf a0), (false, .int a1)] rfl (ap_r (ap_c rfl ap_0)) (by decide +kernel) hst (al_of (aw_r (aw_i aw_0)) (by decide)) fun p e s m args below meth c X => V.sub (lv' := [(0, false, va_rf a0), (1, false, .int a1)]) [0, 1] rfl (vX3_edges X hf)
def fJ39_siftUpUsingComparator_p43 (D : aD) (h : aH) (a0 : Int32) (a1 : Option Nat) (a2 : Option Nat) : Option (aH) :=
  (sR D h a2 a0 a1).bind fun h1 =>
  some h1
theorem vJ39_siftUpUsingComparator_p43 {h : aH} {a0 : Int32} {a1 : Option Nat} {a2 : Option Nat} {g : aH} (X : aX p l R s m meth c D n0 s0 yJ39_siftUpUsingComparator cJ39_siftUpUsingComparator 17 3248 6 (none) h0) (hf : fJ39_siftUpUsingComparator_p43 D h a0 a1 a2 = some g) : V p l e R s m args below meth c D n0 s0 (aEnd D below args s h0 (.inr none, g)) h 43 [(0, false, .int a0), (1, false, va_rf a1), (2, false, va_rf a2)] [] := by
  have C := X.1
  unfold fJ39_siftUpUsingComparator_p43 at hf
  refine v_aload_n (pc := 43) (j := 2) C dJ39_siftUpUsingComparator_43 rfl rfl ?_
  refine v_iload_n (pc := 44) (j := 0) C dJ39_siftUpUsingComparator_44 rfl rfl ?_
  refine v_aload_n (pc := 45) (j := 1) C dJ39_siftUpUsingComparator_45 rfl rfl ?_
  obtain ⟨h1, eh1, hf⟩ := oB hf
  refine v_aastore (pc := 46) C eh1 dJ39_siftUpUsingComparator_46 ?_
  cases hf
  exact v_return (pc := 47) C X.2.1 X.2.2.1 X.2.2.2.1 rfl dJ39_siftUpUsingComparator_47
def fJ39_siftUpUsingComparator_p0 (D : aD) : Nat → aH → Int32 → (Option Nat) → (Option Nat) → (Option Nat) → Option (aH)
  | 0, _, _, _, _, _ => none
  | n + 1, h, a0, a1, a2, a3 =>
  if a0 ≤ 0 then
  (fJ39_siftUpUsingComparator_p43 D h a0 a1 a2)
  else
  ((some (((a0 - (1 : Int32)).toUInt32 >>> ((1 : Int32).toUInt32 &&& Int32.toUInt32 31)).toInt32)).bind fun x1 =>
  (eR h a2 x1).bind fun x2 =>
  (aIs h 14 a3).bind fun _ =>
  bnd2 (fX15_compare D h a3 a1 x2) fun x4 h5 =>
  if x4 < 0 then
  ((sR D h5 a2 a0 x2).bind fun h6 =>
  fJ39_siftUpUsingComparator_p0 D n h6 x1 a1 a2 a3)
  else
  (fJ39_siftUpUsingComparator_p43 D h5 a0 a1 a2))
theorem vJ39_siftUpUsingComparator_p0 (X : aX p l R s m meth c D n0 s0 yJ39_siftUpUsingComparator cJ39_siftUpUsingComparator 17 3248 6 (none) h0) : ∀ (n : Nat) (h : aH) (a0 : Int32) (a1 : Option Nat) (a2 : Option Nat) (a3 : Option Nat) (g : aH), fJ39_siftUpUsingComparator_p0 D n h a0 a1 a2 a3 = some g → V p l e R s m args below meth c D n0 s0 (aEnd D below args s h0 (.inr none, g)) h 0 [(0, false, .int a0), (1, false, va_rf a1), (2, false, va_rf a2), (3, false, va_rf a3)] [] := by
  have C := X.1
  intro n
  induction n with
  | zero =>
    intro _ _ _ _ _ _ hf
    rw [fJ39_siftUpUsingComparator_p0] at hf
    cases hf
  | succ n ih =>
    intro h a0 a1 a2 a3 g hf
    rw [fJ39_siftUpUsingComparator_p0] at hf
    refine v_iload_n (pc := 0) (j := 0) C dJ39_siftUpUsingComparator_0 rfl rfl ?_
    refine v_if_le (pc := 1) (tgt := 43) C dJ39_siftUpUsingComparator_1 rfl (fun hc => ?_) (fun hc => ?_)
    · rw [if_pos hc] at hf
      exact V.sub [0, 1, 2] rfl (vJ39_siftUpUsingComparator_p43 X hf)
    · rw [if_neg hc] at hf
      refine v_iload_n (pc := 4) (j := 0) C dJ39_siftUpUsingComparator_4 rfl rfl ?_
      refine v_iconst (pc := 5) (v := (1 : Int32)) C dJ39_siftUpUsingComparator_5 rfl ?_
      refine v_isub (pc := 6) C dJ39_siftUpUsingComparator_6 ?_
      refine v_iconst (pc := 7) (v := (1 : Int32)) C dJ39_siftUpUsingComparator_7 rfl ?_
      refine v_iushr (pc := 8) C dJ39_siftUpUsingComparator_8 ?_
      obtain ⟨x1, ex1, hf⟩ := oB hf
      refine vst (Option.some.inj ex1) (fun z => .int z :: []) ?_
      refine v_istore (pc := 9) (lv' := [(4, false, .int x1), (0, false, .int a0), (1, false, va_rf a1), (2, false, va_rf a2), (3, false, va_rf a3)]) C dJ39_siftUpUsingComparator_9 (by decide) rfl ?_
      refine v_aload_n (pc := 11) (j := 3) C dJ39_siftUpUsingComparator_11 rfl rfl ?_
      refine v_iload (pc := 12) (j := 0) C dJ39_siftUpUsingComparator_12 rfl ?_
      obtain ⟨x2, ex2, hf⟩ := oB hf
      refine v_aaload (pc := 14) C ex2 dJ39_siftUpUsingComparator_14 ?_
      refine v_astore (pc := 15) (lv' := [(5, false, va_rf x2), (4, false, .int x1), (0, false, .int a0), (1, false, va_rf a1), (2, false, va_rf a2), (3, false, va_rf a3)]) C dJ39_siftUpUsingComparator_15 (by decide) rfl ?_
      refine v_aload_n (pc := 17) (j := 5) C dJ39_siftUpUsingComparator_17 rfl rfl ?_
      refine v_aload_n (pc := 18) (j := 3) C dJ39_siftUpUsingComparator_18 rfl rfl ?_
      refine v_aload (pc := 19) (j := 0) C dJ39_siftUpUsingComparator_19 rfl ?_
      obtain ⟨b3, eb3, hf⟩ := oB hf
      obtain ⟨rb3, _, kb3⟩ := aIs_eq eb3
      obtain ⟨x4, h5, ex4, hf⟩ := bnd2_eq hf
      refine v_call (pc := 21) (d_F (pc := 21) C (As := [va_rf a1, va_rf x2]) (rest := []) rb3 kb3 nt_14 q490 q492 ⟨q491, ⟨by decide +kernel, by decide +kernel⟩⟩ q494 q496 q497 q495 q493 (by decide +kernel) yk_X15_compare rfl (by decide) (by decide) (Nat.le_trans aw_0 (by decide)) rfl (mX15_compare C.st ex4) dJ39_siftUpUsingComparator_21) ?_
      refine v_if_lt (pc := 26) (tgt := 32) C dJ39_siftUpUsingComparator_26 rfl (fun hc => ?_) (fun hc => ?_)
      · rw [if_pos hc] at hf
        refine v_aload_n (pc := 32) (j := 4) C dJ39_siftUpUsingComparator_32 rfl rfl ?_
        refine v_iload_n (pc := 33) (j := 2) C dJ39_siftUpUsingComparator_33 rfl rfl ?_
        refine v_aload (pc := 34) (j := 0) C dJ39_siftUpUsingComparator_34 rfl ?_
        obtain ⟨h6, eh6, hf⟩ := oB hf
        refine v_aastore (pc := 36) C eh6 dJ39_siftUpUsingComparator_36 ?_
        refine v_iload (pc := 37) (j := 1) C dJ39_siftUpUsingComparator_37 rfl ?_
        refine v_istore_n (pc := 39) (lv' := [(0, false, .int x1), (5, false, va_rf x2), (4, false, .int x1), (1, false, va_rf a1), (2, false, va_rf a2), (3, false, va_rf a3)]) C dJ39_siftUpUsingComparator_39 rfl (by decide) rfl ?_
        refine v_goto (pc := 40) (tgt := 0) C dJ39_siftUpUsingComparator_40 rfl ?_
        exact V.sub [0, 3, 4, 5] rfl (ih _ _ _ _ _ _ hf)
      · rw [if_neg hc] at hf
        refine v_goto (pc := 29) (tgt := 43) C dJ39_siftUpUsingComparator_29 rfl ?_
        exact V.sub [2, 3, 4] rfl (vJ39_siftUpUsingComparator_p43 X hf)
def fJ39_siftUpUsingComparator (D : aD) (h : aH) (a0 : Int32) (a1 : Option Nat) (a2 : Option Nat) (a3 : Option Nat) : Option (aH) :=
  fJ39_siftUpUsingComparator_p0 D FU h a0 a1 a2 a3
theorem vJ39_siftUpUsingComparator {h : aH} {a0 : Int32} {a1 : Option Nat} {a2 : Option Nat} {a3 : Option Nat} {g : aH} (X : aX p l R s m meth c D n0 s0 yJ39_siftUpUsingComparator cJ39_siftUpUsingComparator 17 3248 6 (none) h0) (hf : fJ39_siftUpUsingComparator D h a0 a1 a2 a3 = some g) : V p l e R s m args below meth c D n0 s0 (aEnd D below args s h0 (.inr none, g)) h 0 [(0, false, .int a0), (1, false, va_rf a1), (2, false, va_rf a2), (3, false, va_rf a3)] [] := by
  have C := X.1
  unfold fJ39_siftUpUsingComparator at hf
  exact V.sub [0, 1, 2, 3] rfl (vJ39_siftUpUsingComparator_p0 X _ _ _ _ _ _ _ hf)
theorem mJ39_siftUpUsingComparator {l : Launch} {D : aD} {h : aH} {a0 : Int32} {a1 : Option Nat} {a2 : Option Nat} {a3 : Option Nat} {g : aH} (hst : l.stackTraces = false) (hf : fJ39_siftUpUsingComparator D h a0 a1 a2 a3 = some g) : aM l D yJ39_siftUpUsingComparator cJ39_siftUpUsingComparator 6 (none) 17 3248 [.int a0, va_rf a1, va_rf a2, va_rf a3] h (.inr none, g) :=
  aM.ofX [(false, .int a0), (false, va_rf a1), (false, va_rf a2), (false, va_rf a3)] rfl (ap_c rfl (ap_r (ap_r (ap_r ap_0)))) (by decide +kernel) hst (al_of (aw_i (aw_r (aw_r (aw_r aw_0)))) (by decide)) fun p e s m args below meth c X => V.sub (lv' := [(0, false, .int a0), (1, false, va_rf a1), (2, false, va_rf a2), (3, false, va_rf a3)]) [0, 1, 2, 3] rfl (vJ39_siftUpUsingComparator X hf)
def fJ39_siftUp (D : aD) (h : aH) (a0 : Option Nat) (a1 : Int32) (a2 : Option Nat) : Option (aH) :=
  (gR h 21 2 a0).bind fun x1 =>
  if x1 = none then
  ((gR h 21 0 a0).bind fun x2 =>
  (fJ39_siftUpComparable D h a1 a2 x2).bind fun h5 =>
  some h5)
  else
  ((gR h 21 0 a0).bind fun x6 =>
  (gR h 21 2 a0).bind fun x7 =>
  (fJ39_siftUpUsingComparator D h a1 a2 x6 x7).bind fun h10 =>
  some h10)
theorem vJ39_siftUp {h : aH} {a0 : Option Nat} {a1 : Int32} {a2 : Option Nat} {g : aH} (X : aX p l R s m meth c D n0 s0 yJ39_siftUp cJ39_siftUp 18 3273 3 (none) h0) (hf : fJ39_siftUp D h a0 a1 a2 = some g) : V p l e R s m args below meth c D n0 s0 (aEnd D below args s h0 (.inr none, g)) h 0 [(0, false, va_rf a0), (1, false, .int a1), (2, false, va_rf a2)] [] := by
  have C := X.1
  unfold fJ39_siftUp at hf
  refine v_aload_n (pc := 0) (j := 0) C dJ39_siftUp_0 rfl rfl ?_
  obtain ⟨x1, ex1, hf⟩ := oB hf
  refine v_getF (pc := 1) C lk_J39_21 (gR_eq ex1) dJ39_siftUp_1 ?_
  refine v_ifnull (pc := 4) (tgt := 23) C dJ39_siftUp_4 rfl (fun hc => ?_) (fun hc => ?_)
  · rw [if_pos hc] at hf
    refine v_iload_n (pc := 23) (j := 1) C dJ39_siftUp_23 rfl rfl ?_
    refine v_aload_n (pc := 24) (j := 2) C dJ39_siftUp_24 rfl rfl ?_
    refine v_aload_n (pc := 25) (j := 0) C dJ39_siftUp_25 rfl rfl ?_
    obtain ⟨x2, ex2, hf⟩ := oB hf
    refine v_getF (pc := 26) C lk_J39_17 (gR_eq ex2) dJ39_siftUp_26 ?_
    obtain ⟨h5, ex4, hf⟩ := oB hf
    refine v_callU (pc := 29) (d_S (pc := 29) C (As := [.int a1, va_rf a2, va_rf x2]) (rest := []) q602 q603 yk_J39_siftUpComparable rfl (by decide) (by decide) (Nat.le_trans aw_0 (by decide)) rfl (mJ39_siftUpComparable C.st ex4) dJ39_siftUp_29) ?_
    cases hf
    exact v_return (pc := 32) C X.2.1 X.2.2.1 X.2.2.2.1 rfl dJ39_siftUp_32
  · rw [if_neg hc] at hf
    refine v_iload_n (pc := 7) (j := 1) C dJ39_siftUp_7 rfl rfl ?_
    refine v_aload_n (pc := 8) (j := 2) C dJ39_siftUp_8 rfl rfl ?_
    refine v_aload_n (pc := 9) (j := 0) C dJ39_siftUp_9 rfl rfl ?_
    obtain ⟨x6, ex6, hf⟩ := oB hf
    refine v_getF (pc := 10) C lk_J39_17 (gR_eq ex6) dJ39_siftUp_10 ?_
    refine v_aload_n (pc := 13) (j := 0) C dJ39_siftUp_13 rfl rfl ?_
    obtain ⟨x7, ex7, hf⟩ := oB hf
    refine v_getF (pc := 14) C lk_J39_21 (gR_eq ex7) dJ39_siftUp_14 ?_
    obtain ⟨h10, ex9, hf⟩ := oB hf
    refine v_callU (pc := 17) (d_S (pc := 17) C (As := [.int a1, va_rf a2, va_rf x6, va_rf x7]) (rest := []) q486 q487 yk_J39_siftUpUsingComparator rfl (by decide) (by decide) (Nat.le_trans aw_0 (by decide)) rfl (mJ39_siftUpUsingComparator C.st ex9) dJ39_siftUp_17) ?_
    refine v_goto (pc := 20) (tgt := 32) C dJ39_siftUp_20 rfl ?_
    cases hf
    exact v_return (pc := 32) C X.2.1 X.2.2.1 X.2.2.2.1 rfl dJ39_siftUp_32
theorem mJ39_siftUp {l : Launch} {D : aD} {h : aH} {a0 : Option Nat} {a1 : Int32} {a2 : Option Nat} {g : aH} (hst : l.stackTraces = false) (hf : fJ39_siftUp D h a0 a1 a2 = some g) : aM l D yJ39_siftUp cJ39_siftUp 3 (none) 18 3273 [va_rf a0, .int a1, va_rf a2] h (.inr none, g) :=
  aM.ofX [(false, va_rf a0), (false, .int a1), (false, va_rf a2)] rfl (ap_r (ap_c rfl (ap_r ap_0))) (by decide +kernel) hst (al_of (aw_r (aw_i (aw_r aw_0))) (by decide)) fun p e s m args below meth c X => V.sub (lv' := [(0, false, va_rf a0), (1, false, .int a1), (2, false, va_rf a2)]) [0, 1, 2] rfl (vJ39_siftUp X hf)
def fJ39_offer_p43 (D : aD) (h : aH) (a0 : Option Nat) (a1 : Option Nat) (a2 : Int32) : Option (Int32 × aH) :=
  (aIs h 21 a0).bind fun _ =>
  (fJ39_siftUp D h a0 a2 a1).bind fun h3 =>
  (pF D h3 21 1 a0 (.int (a2 + (1 : Int32)))).bind fun h4 =>
  some ((1 : Int32), h4)
theorem vJ39_offer_p43 {h : aH} {a0 : Option Nat} {a1 : Option Nat} {a2 : Int32} {q : Int32} {g : aH} (X : aX p l R s m meth c D n0 s0 yJ39_offer cJ39_offer 19 3295 3 (some .boolean) h0) (hf : fJ39_offer_p43 D h a0 a1 a2 = some (q, g)) : V p l e R s m args below meth c D n0 s0 (aEnd D below args s h0 (.inr (some (.int q)), g)) h 43 [(0, false, va_rf a0), (1, false, va_rf a1), (2, false, .int a2)] [] := by
  have C := X.1
  unfold fJ39_offer_p43 at hf
  refine v_aload_n (pc := 43) (j := 0) C dJ39_offer_43 rfl rfl ?_
  refine v_iload_n (pc := 44) (j := 2) C dJ39_offer_44 rfl rfl ?_
  refine v_aload_n (pc := 45) (j := 1) C dJ39_offer_45 rfl rfl ?_
  obtain ⟨b1, eb1, hf⟩ := oB hf
  obtain ⟨rb1, _, kb1⟩ := aIs_eq eb1
  obtain ⟨h3, ex2, hf⟩ := oB hf
  refine v_callU (pc := 46) (d_V (pc := 46) C (As := [.int a2, va_rf a1]) (rest := []) rb1 kb1 nt_21 q482 yi_J39_siftUp_java_util_PriorityQueue yk_J39_siftUp rfl (by decide) (by decide) (Nat.le_trans aw_0 (by decide)) rfl (mJ39_siftUp C.st ex2) dJ39_offer_46) ?_
  refine v_aload_n (pc := 49) (j := 0) C dJ39_offer_49 rfl rfl ?_
  refine v_iload_n (pc := 50) (j := 2) C dJ39_offer_50 rfl rfl ?_
  refine v_iconst (pc := 51) (v := (1 : Int32)) C dJ39_offer_51 rfl ?_
  refine v_iadd (pc := 52) C dJ39_offer_52 ?_
  obtain ⟨h4, eh4, hf⟩ := oB hf
  refine v_putF (pc := 53) C lk_J39_58 tyJ39 tyJ39_ok nmJ39 (tyJ39_ok 1 (by decide)) rfl rfl eh4 dJ39_offer_53 ?_
  refine v_iconst (pc := 56) (v := (1 : Int32)) C dJ39_offer_56 rfl ?_
  cases hf
  exact v_zreturn (pc := 57) C X.2.1 X.2.2.1 X.2.2.2.1 (by decide) rfl dJ39_offer_57
def fJ39_offer (D : aD) (h : aH) (a0 : Option Nat) (a1 : Option Nat) : Option (Int32 × aH) :=
  if a1 = none then
  (none)
  else
  ((gI h 21 3 a0).bind fun x1 =>
  (pF D h 21 3 a0 (.int (x1 + (1 : Int32)))).bind fun h2 =>
  (gI h2 21 1 a0).bind fun x3 =>
  (gR h2 21 0 a0).bind fun x4 =>
  (eN h2 x4).bind fun x5 =>
  if x3 < x5 then
  (fJ39_offer_p43 D h2 a0 a1 x3)
  else
  ((aIs h2 21 a0).bind fun _ =>
  (fJ39_grow D h2 a0 (x3 + (1 : Int32))).bind fun h8 =>
  fJ39_offer_p43 D h8 a0 a1 x3))
theorem vJ39_offer {h : aH} {a0 : Option Nat} {a1 : Option Nat} {q : Int32} {g : aH} (X : aX p l R s m meth c D n0 s0 yJ39_offer cJ39_offer 19 3295 3 (some .boolean) h0) (hf : fJ39_offer D h a0 a1 = some (q, g)) : V p l e R s m args below meth c D n0 s0 (aEnd D below args s h0 (.inr (some (.int q)), g)) h 0 [(0, false, va_rf a0), (1, false, va_rf a1)] [] := by
  have C := X.1
  unfold fJ39_offer at hf
  refine v_aload_n (pc := 0) (j := 1) C dJ39_offer_0 rfl rfl ?_
  refine v_ifnonnull (pc := 1) (tgt := 12) C dJ39_offer_1 rfl (fun hc => ?_) (fun hc => ?_)
  · rw [if_neg hc] at hf
    refine v_aload_n (pc := 12) (j := 0) C dJ39_offer_12 rfl rfl ?_
    refine v_dup (pc := 13) C dJ39_offer_13 (va_rfc _) ?_
    obtain ⟨x1, ex1, hf⟩ := oB hf
    refine v_getF (pc := 14) C lk_J39_93 (gI_eq ex1) dJ39_offer_14 ?_
    refine v_iconst (pc := 17) (v := (1 : Int32)) C dJ39_offer_17 rfl ?_
    refine v_iadd (pc := 18) C dJ39_offer_18 ?_
    obtain ⟨h2, eh2, hf⟩ := oB hf
    refine v_putF (pc := 19) C lk_J39_93 tyJ39 tyJ39_ok nmJ39 (tyJ39_ok 3 (by decide)) rfl rfl eh2 dJ39_offer_19 ?_
    refine v_aload_n (pc := 22) (j := 0) C dJ39_offer_22 rfl rfl ?_
    obtain ⟨x3, ex3, hf⟩ := oB hf
    refine v_getF (pc := 23) C lk_J39_58 (gI_eq ex3) dJ39_offer_23 ?_
    refine v_istore_n (pc := 26) (lv' := [(2, false, .int x3), (0, false, va_rf a0), (1, false, va_rf a1)]) C dJ39_offer_26 rfl (by decide) rfl ?_
    refine v_iload_n (pc := 27) (j := 0) C dJ39_offer_27 rfl rfl ?_
    refine v_aload_n (pc := 28) (j := 1) C dJ39_offer_28 rfl rfl ?_
    obtain ⟨x4, ex4, hf⟩ := oB hf
    refine v_getF (pc := 29) C lk_J39_17 (gR_eq ex4) dJ39_offer_29 ?_
    obtain ⟨x5, ex5, hf⟩ := oB hf
    refine v_alen (pc := 32) C ex5 dJ39_offer_32 ?_
    refine v_icmp_lt (pc := 33) (tgt := 43) C dJ39_offer_33 rfl (fun hc => ?_) (fun hc => ?_)
    · rw [if_pos hc] at hf
      exact V.sub [1, 2, 0] rfl (vJ39_offer_p43 X hf)
    · rw [if_neg hc] at hf
      refine v_aload_n (pc := 36) (j := 1) C dJ39_offer_36 rfl rfl ?_
      refine v_iload_n (pc := 37) (j := 0) C dJ39_offer_37 rfl rfl ?_
      refine v_iconst (pc := 38) (v := (1 : Int32)) C dJ39_offer_38 rfl ?_
      refine v_iadd (pc := 39) C dJ39_offer_39 ?_
      obtain ⟨b6, eb6, hf⟩ := oB hf
      obtain ⟨rb6, _, kb6⟩ := aIs_eq eb6
      obtain ⟨h8, ex7, hf⟩ := oB hf
      refine v_callU (pc := 40) (d_V (pc := 40) C (As := [.int (x3 + (1 : Int32))]) (rest := []) rb6 kb6 nt_21 q416 yi_J39_grow_java_util_PriorityQueue yk_J39_grow rfl (by decide) (by decide) (Nat.le_trans aw_0 (by decide)) rfl (mJ39_grow C.st ex7) dJ39_offer_40) ?_
      exact V.sub [1, 2, 0] rfl (vJ39_offer_p43 X hf)
  · rw [if_pos hc] at hf
    cases hf
theorem mJ39_offer {l : Launch} {D : aD} {h : aH} {a0 : Option Nat} {a1 : Option Nat} {q : Int32} {g : aH} (hst : l.stackTraces = false) (hf : fJ39_offer D h a0 a1 = some (q, g)) : aM l D yJ39_offer cJ39_offer 3 (some .boolean) 19 3295 [va_rf a0, va_rf a1] h (.inr (some (.int q)), g) :=
  aM.ofX [(false, va_rf a0), (false, va_rf a1)] rfl (ap_r (ap_r ap_0)) (by decide +kernel) hst (al_of (aw_r (aw_r aw_0)) (by decide)) fun p e s m args below meth c X => V.sub (lv' := [(0, false, va_rf a0), (1, false, va_rf a1)]) [0, 1] rfl (vJ39_offer X hf)
def fJ39_add (D : aD) (h : aH) (a0 : Option Nat) (a1 : Option Nat) : Option (Int32 × aH) :=
  (aIs h 21 a0).bind fun _ =>
  bnd2 (fJ39_offer D h a0 a1) fun x2 h3 =>
  (ckZ x2).bind fun _ =>
  some (x2, h3)
theorem vJ39_add {h : aH} {a0 : Option Nat} {a1 : Option Nat} {q : Int32} {g : aH} (X : aX p l R s m meth c D n0 s0 yJ39_add cJ39_add 20 3317 2 (some .boolean) h0) (hf : fJ39_add D h a0 a1 = some (q, g)) : V p l e R s m args below meth c D n0 s0 (aEnd D below args s h0 (.inr (some (.int q)), g)) h 0 [(0, false, va_rf a0), (1, false, va_rf a1)] [] := by
  have C := X.1
  unfold fJ39_add at hf
  refine v_aload_n (pc := 0) (j := 0) C dJ39_add_0 rfl rfl ?_
  refine v_aload_n (pc := 1) (j := 1) C dJ39_add_1 rfl rfl ?_
  obtain ⟨b1, eb1, hf⟩ := oB hf
  obtain ⟨rb1, _, kb1⟩ := aIs_eq eb1
  obtain ⟨x2, h3, ex2, hf⟩ := bnd2_eq hf
  refine v_call (pc := 2) (d_V (pc := 2) C (As := [va_rf a1]) (rest := []) rb1 kb1 nt_21 q412 yi_J39_offer_java_util_PriorityQueue yk_J39_offer rfl (by decide) (by decide) (Nat.le_trans aw_0 (by decide)) rfl (mJ39_offer C.st ex2) dJ39_add_2) ?_
  obtain ⟨_, e4, hf⟩ := oB hf
  cases hf
  exact v_zreturn (pc := 5) C X.2.1 X.2.2.1 X.2.2.2.1 (ckZ_eq e4) rfl dJ39_add_5
theorem mJ39_add {l : Launch} {D : aD} {h : aH} {a0 : Option Nat} {a1 : Option Nat} {q : Int32} {g : aH} (hst : l.stackTraces = false) (hf : fJ39_add D h a0 a1 = some (q, g)) : aM l D yJ39_add cJ39_add 2 (some .boolean) 20 3317 [va_rf a0, va_rf a1] h (.inr (some (.int q)), g) :=
  aM.ofX [(false, va_rf a0), (false, va_rf a1)] rfl (ap_r (ap_r ap_0)) (by decide +kernel) hst (al_of (aw_r (aw_r aw_0)) (by decide)) fun p e s m args below meth c X => V.sub (lv' := [(0, false, va_rf a0), (1, false, va_rf a1)]) [0, 1] rfl (vJ39_add X hf)
def fJ39_siftDownUsingComparator_p88 (D : aD) (h : aH) (a0 : Int32) (a1 : Option Nat) (a2 : Option Nat) : Option (aH) :=
  (sR D h a2 a0 a1).bind fun h1 =>
  some h1
theorem vJ39_siftDownUsingComparator_p88 {h : aH} {a0 : Int32} {a1 : Option Nat} {a2 : Option Nat} {g : aH} (X : aX p l R s m meth c D n0 s0 yJ39_siftDownUsingComparator cJ39_siftDownUsingComparator 17 3248 9 (none) h0) (hf : fJ39_siftDownUsingComparator_p88 D h a0 a1 a2 = some g) : V p l e R s m args below meth c D n0 s0 (aEnd D below args s h0 (.inr none, g)) h 88 [(0, false, .int a0), (1, false, va_rf a1), (2, false, va_rf a2)] [] := by
  have C := X.1
  unfold fJ39_siftDownUsingComparator_p88 at hf
  refine v_aload_n (pc := 88) (j := 2) C dJ39_siftDownUsingComparator_88 rfl rfl ?_
  refine v_iload_n (pc := 89) (j := 0) C dJ39_siftDownUsingComparator_89 rfl rfl ?_
  refine v_aload_n (pc := 90) (j := 1) C dJ39_siftDownUsingComparator_90 rfl rfl ?_
  obtain ⟨h1, eh1, hf⟩ := oB hf
  refine v_aastore (pc := 91) C eh1 dJ39_siftDownUsingComparator_91 ?_
  cases hf
  exact v_return (pc := 92) C X.2.1 X.2.2.1 X.2.2.2.1 rfl dJ39_siftDownUsingComparator_92
def fJ39_siftDownUsingComparator_p61 (D : aD) (K5 : aH → Int32 → (Option Nat) → (Option Nat) → Int32 → (Option Nat) → Int32 → Option (aH)) (h : aH) (a0 : Int32) (a1 : Option Nat) (a2 : Option Nat) (a3 : Int32) (a4 : Option Nat) (a5 : Int32) (a6 : Int32) (a7 : Option Nat) : Option (aH) :=
  (aIs h 14 a4).bind fun _ =>
  bnd2 (fX15_compare D h a4 a1 a7) fun x2 h3 =>
  if 0 < x2 then
  ((sR D h3 a2 a0 a7).bind fun h4 =>
  K5 h4 a6 a1 a2 a3 a4 a5)
  else
  (fJ39_siftDownUsingComparator_p88 D h3 a0 a1 a2)
theorem vJ39_siftDownUsingComparator_p61 {h : aH} {K5 : aH → Int32 → (Option Nat) → (Option Nat) → Int32 → (Option Nat) → Int32 → Option (aH)} {a0 : Int32} {a1 : Option Nat} {a2 : Option Nat} {a3 : Int32} {a4 : Option Nat} {a5 : Int32} {a6 : Int32} {a7 : Option Nat} {g : aH} (X : aX p l R s m meth c D n0 s0 yJ39_siftDownUsingComparator cJ39_siftDownUsingComparator 17 3248 9 (none) h0) (k5 : ∀ (h : aH) (a0 : Int32) (a1 : Option Nat) (a2 : Option Nat) (a3 : Int32) (a4 : Option Nat) (a5 : Int32) (g : aH), K5 h a0 a1 a2 a3 a4 a5 = some g → V p l e R s m args below meth c D n0 s0 (aEnd D below args s h0 (.inr none, g)) h 5 [(0, false, .int a0), (1, false, va_rf a1), (2, false, va_rf a2), (3, false, .int a3), (4, false, va_rf a4), (5, false, .int a5)] []) (hf : fJ39_siftDownUsingComparator_p61 D K5 h a0 a1 a2 a3 a4 a5 a6 a7 = some g) : V p l e R s m args below meth c D n0 s0 (aEnd D below args s h0 (.inr none, g)) h 61 [(0, false, .int a0), (1, false, va_rf a1), (2, false, va_rf a2), (3, false, .int a3), (4, false, va_rf a4), (5, false, .int a5), (6, false, .int a6), (7, false, va_rf a7)] [] := by
  have C := X.1
  unfold fJ39_siftDownUsingComparator_p61 at hf
  refine v_aload (pc := 61) (j := 4) C dJ39_siftDownUsingComparator_61 rfl ?_
  refine v_aload_n (pc := 63) (j := 1) C dJ39_siftDownUsingComparator_63 rfl rfl ?_
  refine v_aload (pc := 64) (j := 7) C dJ39_siftDownUsingComparator_64 rfl ?_
  obtain ⟨b1, eb1, hf⟩ := oB hf
  obtain ⟨rb1, _, kb1⟩ := aIs_eq eb1
  obtain ⟨x2, h3, ex2, hf⟩ := bnd2_eq hf
  refine v_call (pc := 66) (d_F (pc := 66) C (As := [va_rf a1, va_rf a7]) (rest := []) rb1 kb1 nt_14 q490 q492 ⟨q491, ⟨by decide +kernel, by decide +kernel⟩⟩ q494 q496 q497 q495 q493 (by decide +kernel) yk_X15_compare rfl (by decide) (by decide) (Nat.le_trans aw_0 (by decide)) rfl (mX15_compare C.st ex2) dJ39_siftDownUsingComparator_66) ?_
  refine v_if_gt (pc := 71) (tgt := 77) C dJ39_siftDownUsingComparator_71 rfl (fun hc => ?_) (fun hc => ?_)
  · rw [if_pos hc] at hf
    refine v_aload_n (pc := 77) (j := 2) C dJ39_siftDownUsingComparator_77 rfl rfl ?_
    refine v_iload_n (pc := 78) (j := 0) C dJ39_siftDownUsingComparator_78 rfl rfl ?_
    refine v_aload (pc := 79) (j := 7) C dJ39_siftDownUsingComparator_79 rfl ?_
    obtain ⟨h4, eh4, hf⟩ := oB hf
    refine v_aastore (pc := 81) C eh4 dJ39_siftDownUsingComparator_81 ?_
    refine v_iload (pc := 82) (j := 6) C dJ39_siftDownUsingComparator_82 rfl ?_
    refine v_istore_n (pc := 84) (lv' := [(0, false, .int a6), (1, false, va_rf a1), (2, false, va_rf a2), (3, false, .int a3), (4, false, va_rf a4), (5, false, .int a5), (6, false, .int a6), (7, false, va_rf a7)]) C dJ39_siftDownUsingComparator_84 rfl (by decide) rfl ?_
    refine v_goto (pc := 85) (tgt := 5) C dJ39_siftDownUsingComparator_85 rfl ?_
    exact V.sub [0, 1, 2, 3, 4, 5] rfl (k5 _ _ _ _ _ _ _ _ hf)
  · rw [if_neg hc] at hf
    refine v_goto (pc := 74) (tgt := 88) C dJ39_siftDownUsingComparator_74 rfl ?_
    exact V.sub [0, 1, 2] rfl (vJ39_siftDownUsingComparator_p88 X hf)
def fJ39_siftDownUsingComparator_p5 (D : aD) : Nat → aH → Int32 → (Option Nat) → (Option Nat) → Int32 → (Option Nat) → Int32 → Option (aH)
  | 0, _, _, _, _, _, _, _ => none
  | n + 1, h, a0, a1, a2, a3, a4, a5 =>
  if a5 ≤ a0 then
  (fJ39_siftDownUsingComparator_p88 D h a0 a1 a2)
  else
  ((some (((a0 <<< ((1 : Int32) &&& 31)) + (1 : Int32)))).bind fun x1 =>
  (eR h a2 x1).bind fun x2 =>
  (some ((x1 + (1 : Int32)))).bind fun x3 =>
  if a3 ≤ x3 then
  (fJ39_siftDownUsingComparator_p61 D (fJ39_siftDownUsingComparator_p5 D n) h a0 a1 a2 a3 a4 a5 x1 x2)
  else
  ((eR h a2 x3).bind fun x4 =>
  (aIs h 14 a4).bind fun _ =>
  bnd2 (fX15_compare D h a4 x2 x4) fun x6 h7 =>
  if x6 ≤ 0 then
  (fJ39_siftDownUsingComparator_p61 D (fJ39_siftDownUsingComparator_p5 D n) h7 a0 a1 a2 a3 a4 a5 x1 x2)
  else
  ((eR h7 a2 x3).bind fun x8 =>
  fJ39_siftDownUsingComparator_p61 D (fJ39_siftDownUsingComparator_p5 D n) h7 a0 a1 a2 a3 a4 a5 x3 x8)))
theorem vJ39_siftDownUsingComparator_p5 (X : aX p l R s m meth c D n0 s0 yJ39_siftDownUsingComparator cJ39_siftDownUsingComparator 17 3248 9 (none) h0) : ∀ (n : Nat) (h : aH) (a0 : Int32) (a1 : Option Nat) (a2 : Option Nat) (a3 : Int32) (a4 : Option Nat) (a5 : Int32) (g : aH), fJ39_siftDownUsingComparator_p5 D n h a0 a1 a2 a3 a4 a5 = some g → V p l e R s m args below meth c D n0 s0 (aEnd D below args s h0 (.inr none, g)) h 5 [(0, false, .int a0), (1, false, va_rf a1), (2, false, va_rf a2), (3, false, .int a3), (4, false, va_rf a4), (5, false, .int a5)] [] := by
  have C := X.1
  intro n
  induction n with
  | zero =>
    intro _ _ _ _ _ _ _ _ hf
    rw [fJ39_siftDownUsingComparator_p5] at hf
    cases hf
  | succ n ih =>
    intro h a0 a1 a2 a3 a4 a5 g hf
    rw [fJ39_siftDownUsingComparator_p5] at hf
    refine v_iload_n (pc := 5) (j := 0) C dJ39_siftDownUsingComparator_5 rfl rfl ?_
    refine v_iload (pc := 6) (j := 5) C dJ39_siftDownUsingComparator_6 rfl ?_
    refine v_icmp_ge (pc := 8) (tgt := 88) C dJ39_siftDownUsingComparator_8 rfl (fun hc => ?_) (fun hc => ?_)
    · rw [if_pos hc] at hf
      exact V.sub [0, 1, 2] rfl (vJ39_siftDownUsingComparator_p88 X hf)
    · rw [if_neg hc] at hf
      refine v_iload_n (pc := 11) (j := 0) C dJ39_siftDownUsingComparator_11 rfl rfl ?_
      refine v_iconst (pc := 12) (v := (1 : Int32)) C dJ39_siftDownUsingComparator_12 rfl ?_
      refine v_ishl (pc := 13) C dJ39_siftDownUsingComparator_13 ?_
      refine v_iconst (pc := 14) (v := (1 : Int32)) C dJ39_siftDownUsingComparator_14 rfl ?_
      refine v_iadd (pc := 15) C dJ39_siftDownUsingComparator_15 ?_
      obtain ⟨x1, ex1, hf⟩ := oB hf
      refine vst (Option.some.inj ex1) (fun z => .int z :: []) ?_
      refine v_istore (pc := 16) (lv' := [(6, false, .int x1), (0, false, .int a0), (1, false, va_rf a1), (2, false, va_rf a2), (3, false, .int a3), (4, false, va_rf a4), (5, false, .int a5)]) C dJ39_siftDownUsingComparator_16 (by decide) rfl ?_
      refine v_aload_n (pc := 18) (j := 3) C dJ39_siftDownUsingComparator_18 rfl rfl ?_
      refine v_iload (pc := 19) (j := 0) C dJ39_siftDownUsingComparator_19 rfl ?_
      obtain ⟨x2, ex2, hf⟩ := oB hf
      refine v_aaload (pc := 21) C ex2 dJ39_siftDownUsingComparator_21 ?_
      refine v_astore (pc := 22) (lv' := [(7, false, va_rf x2), (6, false, .int x1), (0, false, .int a0), (1, false, va_rf a1), (2, false, va_rf a2), (3, false, .int a3), (4, false, va_rf a4), (5, false, .int a5)]) C dJ39_siftDownUsingComparator_22 (by decide) rfl ?_
      refine v_iload (pc := 24) (j := 1) C dJ39_siftDownUsingComparator_24 rfl ?_
      refine v_iconst (pc := 26) (v := (1 : Int32)) C dJ39_siftDownUsingComparator_26 rfl ?_
      refine v_iadd (pc := 27) C dJ39_siftDownUsingComparator_27 ?_
      obtain ⟨x3, ex3, hf⟩ := oB hf
      refine vst (Option.some.inj ex3) (fun z => .int z :: []) ?_
      refine v_istore (pc := 28) (lv' := [(8, false, .int x3), (7, false, va_rf x2), (6, false, .int x1), (0, false, .int a0), (1, false, va_rf a1), (2, false, va_rf a2), (3, false, .int a3), (4, false, va_rf a4), (5, false, .int a5)]) C dJ39_siftDownUsingComparator_28 (by decide) rfl ?_
      refine v_iload (pc := 30) (j := 0) C dJ39_siftDownUsingComparator_30 rfl ?_
      refine v_iload_n (pc := 32) (j := 6) C dJ39_siftDownUsingComparator_32 rfl rfl ?_
      refine v_icmp_ge (pc := 33) (tgt := 61) C dJ39_siftDownUsingComparator_33 rfl (fun hc => ?_) (fun hc => ?_)
      · rw [if_pos hc] at hf
        exact V.sub [3, 4, 5, 6, 7, 8, 2, 1] rfl (vJ39_siftDownUsingComparator_p61 X ih hf)
      · rw [if_neg hc] at hf
        refine v_aload (pc := 36) (j := 7) C dJ39_siftDownUsingComparator_36 rfl ?_
        refine v_aload (pc := 38) (j := 1) C dJ39_siftDownUsingComparator_38 rfl ?_
        refine v_aload_n (pc := 40) (j := 5) C dJ39_siftDownUsingComparator_40 rfl rfl ?_
        refine v_iload (pc := 41) (j := 0) C dJ39_siftDownUsingComparator_41 rfl ?_
        obtain ⟨x4, ex4, hf⟩ := oB hf
        refine v_aaload (pc := 43) C ex4 dJ39_siftDownUsingComparator_43 ?_
        obtain ⟨b5, eb5, hf⟩ := oB hf
        obtain ⟨rb5, _, kb5⟩ := aIs_eq eb5
        obtain ⟨x6, h7, ex6, hf⟩ := bnd2_eq hf
        refine v_call (pc := 44) (d_F (pc := 44) C (As := [va_rf x2, va_rf x4]) (rest := []) rb5 kb5 nt_14 q490 q492 ⟨q491, ⟨by decide +kernel, by decide +kernel⟩⟩ q494 q496 q497 q495 q493 (by decide +kernel) yk_X15_compare rfl (by decide) (by decide) (Nat.le_trans aw_0 (by decide)) rfl (mX15_compare C.st ex6) dJ39_siftDownUsingComparator_44) ?_
        refine v_if_le (pc := 49) (tgt := 61) C dJ39_siftDownUsingComparator_49 rfl (fun hc => ?_) (fun hc => ?_)
        · rw [if_pos hc] at hf
          exact V.sub [3, 4, 5, 6, 7, 8, 2, 1] rfl (vJ39_siftDownUsingComparator_p61 X ih hf)
        · rw [if_neg hc] at hf
          refine v_aload_n (pc := 52) (j := 5) C dJ39_siftDownUsingComparator_52 rfl rfl ?_
          refine v_iload (pc := 53) (j := 0) C dJ39_siftDownUsingComparator_53 rfl ?_
          refine v_dup (pc := 55) C dJ39_siftDownUsingComparator_55 rfl ?_
          refine v_istore (pc := 56) (lv' := [(6, false, .int x3), (8, false, .int x3), (7, false, va_rf x2), (0, false, .int a0), (1, false, va_rf a1), (2, false, va_rf a2), (3, false, .int a3), (4, false, va_rf a4), (5, false, .int a5)]) C dJ39_siftDownUsingComparator_56 (by decide) rfl ?_
          obtain ⟨x8, ex8, hf⟩ := oB hf
          refine v_aaload (pc := 58) C ex8 dJ39_siftDownUsingComparator_58 ?_
          refine v_astore (pc := 59) (lv' := [(7, false, va_rf x8), (6, false, .int x3), (8, false, .int x3), (0, false, .int a0), (1, false, va_rf a1), (2, false, va_rf a2), (3, false, .int a3), (4, false, va_rf a4), (5, false, .int a5)]) C dJ39_siftDownUsingComparator_59 (by decide) rfl ?_
          exact V.sub [3, 4, 5, 6, 7, 8, 1, 0] rfl (vJ39_siftDownUsingComparator_p61 X ih hf)
def fJ39_siftDownUsingComparator (D : aD) (h : aH) (a0 : Int32) (a1 : Option Nat) (a2 : Option Nat) (a3 : Int32) (a4 : Option Nat) : Option (aH) :=
  (some ((a3.toUInt32 >>> ((1 : Int32).toUInt32 &&& Int32.toUInt32 31)).toInt32)).bind fun x1 =>
  fJ39_siftDownUsingComparator_p5 D FU h a0 a1 a2 a3 a4 x1
theorem vJ39_siftDownUsingComparator {h : aH} {a0 : Int32} {a1 : Option Nat} {a2 : Option Nat} {a3 : Int32} {a4 : Option Nat} {g : aH} (X : aX p l R s m meth c D n0 s0 yJ39_siftDownUsingComparator cJ39_siftDownUsingComparator 17 3248 9 (none) h0) (hf : fJ39_siftDownUsingComparator D h a0 a1 a2 a3 a4 = some g) : V p l e R s m args below meth c D n0 s0 (aEnd D below args s h0 (.inr none, g)) h 0 [(0, false, .int a0), (1, false, va_rf a1), (2, false, va_rf a2), (3, false, .int a3), (4, false, va_rf a4)] [] := by
  have C := X.1
  unfold fJ39_siftDownUsingComparator at hf
  refine v_iload_n (pc := 0) (j := 3) C dJ39_siftDownUsingComparator_0 rfl rfl ?_
  refine v_iconst (pc := 1) (v := (1 : Int32)) C dJ39_siftDownUsingComparator_1 rfl ?_
  refine v_iushr (pc := 2) C dJ39_siftDownUsingComparator_2 ?_
  obtain ⟨x1, ex1, hf⟩ := oB hf
  refine vst (Option.some.inj ex1) (fun z => .int z :: []) ?_
  refine v_istore (pc := 3) (lv' := [(5, false, .int x1), (0, false, .int a0), (1, false, va_rf a1), (2, false, va_rf a2), (3, false, .int a3), (4, false, va_rf a4)]) C dJ39_siftDownUsingComparator_3 (by decide) rfl ?_
  exact V.sub [1, 2, 3, 4, 5, 0] rfl (vJ39_siftDownUsingComparator_p5 X _ _ _ _ _ _ _ _ _ hf)
theorem mJ39_siftDownUsingComparator {l : Launch} {D : aD} {h : aH} {a0 : Int32} {a1 : Option Nat} {a2 : Option Nat} {a3 : Int32} {a4 : Option Nat} {g : aH} (hst : l.stackTraces = false) (hf : fJ39_siftDownUsingComparator D h a0 a1 a2 a3 a4 = some g) : aM l D yJ39_siftDownUsingComparator cJ39_siftDownUsingComparator 9 (none) 17 3248 [.int a0, va_rf a1, va_rf a2, .int a3, va_rf a4] h (.inr none, g) :=
  aM.ofX [(false, .int a0), (false, va_rf a1), (false, va_rf a2), (false, .int a3), (false, va_rf a4)] rfl (ap_c rfl (ap_r (ap_r (ap_c rfl (ap_r ap_0))))) (by decide +kernel) hst (al_of (aw_i (aw_r (aw_r (aw_i (aw_r aw_0))))) (by decide)) fun p e s m args below meth c X => V.sub (lv' := [(0, false, .int a0), (1, false, va_rf a1), (2, false, va_rf a2), (3, false, .int a3), (4, false, va_rf a4)]) [0, 1, 2, 3, 4] rfl (vJ39_siftDownUsingComparator X hf)
def fJ39_poll (D : aD) (h : aH) (a0 : Option Nat) : Option (Option Nat × aH) :=
  (gR h 21 0 a0).bind fun x1 =>
  (eR h x1 (0 : Int32)).bind fun x2 =>
  if x2 = none then
  (some (x2, h))
  else
  ((gI h 21 3 a0).bind fun x3 =>
  (pF D h 21 3 a0 (.int (x3 + (1 : Int32)))).bind fun h4 =>
  (gI h4 21 1 a0).bind fun x5 =>
  (pF D h4 21 1 a0 (.int (x5 - (1 : Int32)))).bind fun h6 =>
  (some ((x5 - (1 : Int32)))).bind fun x7 =>
  (eR h6 x1 (x5 - (1 : Int32))).bind fun x8 =>
  (sR D h6 x1 x7 none).bind fun h9 =>
  if x7 ≤ 0 then
  (some (x2, h9))
  else
  ((gR h9 21 2 a0).bind fun x10 =>
  if x10 = none then
  ((fJ39_siftDownComparable D h9 (0 : Int32) x8 x1 x7).bind fun h16 =>
  some (x2, h16))
  else
  ((fJ39_siftDownUsingComparator D h9 (0 : Int32) x8 x1 x7 x10).bind fun h13 =>
  some (x2, h13))))
theorem vJ39_poll {h : aH} {a0 : Option Nat} {q : Option Nat} {g : aH} (X : aX p l R s m meth c D n0 s0 yJ39_poll cJ39_poll 18 3276 6 (some (.object "java/lang/Object")) h0) (hf : fJ39_poll D h a0 = some (q, g)) : V p l e R s m args below meth c D n0 s0 (aEnd D below args s h0 (.inr (some (va_rf q)), g)) h 0 [(0, false, va_rf a0)] [] := by
  have C := X.1
  unfold fJ39_poll at hf
  refine v_aload_n (pc := 0) (j := 0) C dJ39_poll_0 rfl rfl ?_
  obtain ⟨x1, ex1, hf⟩ := oB hf
  refine v_getF (pc := 1) C lk_J39_17 (gR_eq ex1) dJ39_poll_1 ?_
  refine v_dup (pc := 4) C dJ39_poll_4 (va_rfc _) ?_
  refine v_astore_n (pc := 5) (lv' := [(1, false, va_rf x1), (0, false, va_rf a0)]) C dJ39_poll_5 rfl (by decide) rfl ?_
  refine v_iconst (pc := 6) (v := (0 : Int32)) C dJ39_poll_6 rfl ?_
  obtain ⟨x2, ex2, hf⟩ := oB hf
  refine v_aaload (pc := 7) C ex2 dJ39_poll_7 ?_
  refine v_dup (pc := 8) C dJ39_poll_8 (va_rfc _) ?_
  refine v_astore_n (pc := 9) (lv' := [(2, false, va_rf x2), (1, false, va_rf x1), (0, false, va_rf a0)]) C dJ39_poll_9 rfl (by decide) rfl ?_
  refine v_ifnull (pc := 10) (tgt := 79) C dJ39_poll_10 rfl (fun hc => ?_) (fun hc => ?_)
  · rw [if_pos hc] at hf
    refine v_aload_n (pc := 79) (j := 0) C dJ39_poll_79 rfl rfl ?_
    cases hf
    exact v_areturn (pc := 80) C X.2.1 X.2.2.1 X.2.2.2.1 (Or.inl ⟨_, rfl⟩) rfl dJ39_poll_80
  · rw [if_neg hc] at hf
    refine v_aload_n (pc := 13) (j := 2) C dJ39_poll_13 rfl rfl ?_
    refine v_dup (pc := 14) C dJ39_poll_14 (va_rfc _) ?_
    obtain ⟨x3, ex3, hf⟩ := oB hf
    refine v_getF (pc := 15) C lk_J39_93 (gI_eq ex3) dJ39_poll_15 ?_
    refine v_iconst (pc := 18) (v := (1 : Int32)) C dJ39_poll_18 rfl ?_
    refine v_iadd (pc := 19) C dJ39_poll_19 ?_
    obtain ⟨h4, eh4, hf⟩ := oB hf
    refine v_putF (pc := 20) C lk_J39_93 tyJ39 tyJ39_ok nmJ39 (tyJ39_ok 3 (by decide)) rfl rfl eh4 dJ39_poll_20 ?_
    refine v_aload_n (pc := 23) (j := 1) C dJ39_poll_23 rfl rfl ?_
    refine v_aload_n (pc := 24) (j := 2) C dJ39_poll_24 rfl rfl ?_
    refine v_dup (pc := 25) C dJ39_poll_25 (va_rfc _) ?_
    obtain ⟨x5, ex5, hf⟩ := oB hf
    refine v_getF (pc := 26) C lk_J39_58 (gI_eq ex5) dJ39_poll_26 ?_
    refine v_iconst (pc := 29) (v := (1 : Int32)) C dJ39_poll_29 rfl ?_
    refine v_isub (pc := 30) C dJ39_poll_30 ?_
    refine v_dup_x1 (pc := 31) C dJ39_poll_31 rfl (va_rfc _) ?_
    obtain ⟨h6, eh6, hf⟩ := oB hf
    refine v_putF (pc := 32) C lk_J39_58 tyJ39 tyJ39_ok nmJ39 (tyJ39_ok 1 (by decide)) rfl rfl eh6 dJ39_poll_32 ?_
    refine v_dup (pc := 35) C dJ39_poll_35 rfl ?_
    obtain ⟨x7, ex7, hf⟩ := oB hf
    refine vst (Option.some.inj ex7) (fun z => .int z :: [.int (x5 - (1 : Int32)), va_rf x1]) ?_
    refine v_istore_n (pc := 36) (lv' := [(3, false, .int x7), (2, false, va_rf x2), (1, false, va_rf x1), (0, false, va_rf a0)]) C dJ39_poll_36 rfl (by decide) rfl ?_
    obtain ⟨x8, ex8, hf⟩ := oB hf
    refine v_aaload (pc := 37) C ex8 dJ39_poll_37 ?_
    refine v_astore (pc := 38) (lv' := [(4, false, va_rf x8), (3, false, .int x7), (2, false, va_rf x2), (1, false, va_rf x1), (0, false, va_rf a0)]) C dJ39_poll_38 (by decide) rfl ?_
    refine v_aload_n (pc := 40) (j := 3) C dJ39_poll_40 rfl rfl ?_
    refine v_iload_n (pc := 41) (j := 1) C dJ39_poll_41 rfl rfl ?_
    refine v_null (pc := 42) C dJ39_poll_42 ?_
    obtain ⟨h9, eh9, hf⟩ := oB hf
    refine v_aastore (pc := 43) C eh9 dJ39_poll_43 ?_
    refine v_iload_n (pc := 44) (j := 1) C dJ39_poll_44 rfl rfl ?_
    refine v_if_le (pc := 45) (tgt := 79) C dJ39_poll_45 rfl (fun hc => ?_) (fun hc => ?_)
    · rw [if_pos hc] at hf
      refine v_aload_n (pc := 79) (j := 2) C dJ39_poll_79 rfl rfl ?_
      cases hf
      exact v_areturn (pc := 80) C X.2.1 X.2.2.1 X.2.2.2.1 (Or.inl ⟨_, rfl⟩) rfl dJ39_poll_80
    · rw [if_neg hc] at hf
      refine v_aload_n (pc := 48) (j := 4) C dJ39_poll_48 rfl rfl ?_
      obtain ⟨x10, ex10, hf⟩ := oB hf
      refine v_getF (pc := 49) C lk_J39_21 (gR_eq ex10) dJ39_poll_49 ?_
      refine v_dup (pc := 52) C dJ39_poll_52 (va_rfc _) ?_
      refine v_astore (pc := 53) (lv' := [(5, false, va_rf x10), (4, false, va_rf x8), (3, false, .int x7), (2, false, va_rf x2), (1, false, va_rf x1), (0, false, va_rf a0)]) C dJ39_poll_53 (by decide) rfl ?_
      refine v_ifnonnull (pc := 55) (tgt := 69) C dJ39_poll_55 rfl (fun hc => ?_) (fun hc => ?_)
      · rw [if_neg hc] at hf
        refine v_iconst (pc := 69) (v := (0 : Int32)) C dJ39_poll_69 rfl ?_
        refine v_aload (pc := 70) (j := 1) C dJ39_poll_70 rfl ?_
        refine v_aload_n (pc := 72) (j := 4) C dJ39_poll_72 rfl rfl ?_
        refine v_iload_n (pc := 73) (j := 2) C dJ39_poll_73 rfl rfl ?_
        refine v_aload (pc := 74) (j := 0) C dJ39_poll_74 rfl ?_
        obtain ⟨h13, ex12, hf⟩ := oB hf
        refine v_callU (pc := 76) (d_S (pc := 76) C (As := [.int (0 : Int32), va_rf x8, va_rf x1, .int x7, va_rf x10]) (rest := []) q852 q853 yk_J39_siftDownUsingComparator rfl (by decide) (by decide) (Nat.le_trans aw_0 (by decide)) rfl (mJ39_siftDownUsingComparator C.st ex12) dJ39_poll_76) ?_
        refine v_aload_n (pc := 79) (j := 3) C dJ39_poll_79 rfl rfl ?_
        cases hf
        exact v_areturn (pc := 80) C X.2.1 X.2.2.1 X.2.2.2.1 (Or.inl ⟨_, rfl⟩) rfl dJ39_poll_80
      · rw [if_pos hc] at hf
        refine v_iconst (pc := 58) (v := (0 : Int32)) C dJ39_poll_58 rfl ?_
        refine v_aload (pc := 59) (j := 1) C dJ39_poll_59 rfl ?_
        refine v_aload_n (pc := 61) (j := 4) C dJ39_poll_61 rfl rfl ?_
        refine v_iload_n (pc := 62) (j := 2) C dJ39_poll_62 rfl rfl ?_
        obtain ⟨h16, ex15, hf⟩ := oB hf
        refine v_callU (pc := 63) (d_S (pc := 63) C (As := [.int (0 : Int32), va_rf x8, va_rf x1, .int x7]) (rest := []) q849 q850 yk_J39_siftDownComparable rfl (by decide) (by decide) (Nat.le_trans aw_0 (by decide)) rfl (mJ39_siftDownComparable C.st ex15) dJ39_poll_63) ?_
        refine v_goto (pc := 66) (tgt := 79) C dJ39_poll_66 rfl ?_
        refine v_aload_n (pc := 79) (j := 3) C dJ39_poll_79 rfl rfl ?_
        cases hf
        exact v_areturn (pc := 80) C X.2.1 X.2.2.1 X.2.2.2.1 (Or.inl ⟨_, rfl⟩) rfl dJ39_poll_80
theorem mJ39_poll {l : Launch} {D : aD} {h : aH} {a0 : Option Nat} {q : Option Nat} {g : aH} (hst : l.stackTraces = false) (hf : fJ39_poll D h a0 = some (q, g)) : aM l D yJ39_poll cJ39_poll 6 (some (.object "java/lang/Object")) 18 3276 [va_rf a0] h (.inr (some (va_rf q)), g) :=
  aM.ofX [(false, va_rf a0)] rfl (ap_r ap_0) (by decide +kernel) hst (al_of (aw_r aw_0) (by decide)) fun p e s m args below meth c X => V.sub (lv' := [(0, false, va_rf a0)]) [0] rfl (vJ39_poll X hf)
def fX1_recordFirst_p74 (D : aD) (K18 : aH → (Option Nat) → (Option Nat) → Int32 → Option (Int32 × aH)) (h : aH) (a0 : Option Nat) (a1 : Option Nat) (a2 : Int32) : Option (Int32 × aH) :=
  K18 h a0 a1 (a2 + 1)
theorem vX1_recordFirst_p74 {h : aH} {K18 : aH → (Option Nat) → (Option Nat) → Int32 → Option (Int32 × aH)} {a0 : Option Nat} {a1 : Option Nat} {a2 : Int32} {q : Int32} {g : aH} (X : aX p l R s m meth c D n0 s0 yX1_recordFirst cX1_recordFirst 21 3338 4 (some .int) h0) (k18 : ∀ (h : aH) (a0 : Option Nat) (a1 : Option Nat) (a2 : Int32) (q : Int32) (g : aH), K18 h a0 a1 a2 = some (q, g) → V p l e R s m args below meth c D n0 s0 (aEnd D below args s h0 (.inr (some (.int q)), g)) h 18 [(0, false, va_rf a0), (1, false, va_rf a1), (2, false, .int a2)] []) (hf : fX1_recordFirst_p74 D K18 h a0 a1 a2 = some (q, g)) : V p l e R s m args below meth c D n0 s0 (aEnd D below args s h0 (.inr (some (.int q)), g)) h 74 [(0, false, va_rf a0), (1, false, va_rf a1), (2, false, .int a2)] [] := by
  have C := X.1
  unfold fX1_recordFirst_p74 at hf
  refine v_iinc (pc := 74) (j := 2) (v := (a2 + 1)) (lv' := [(2, false, .int (a2 + 1)), (0, false, va_rf a0), (1, false, va_rf a1)]) C dX1_recordFirst_74 rfl rfl (by decide) rfl ?_
  refine v_goto (pc := 77) (tgt := 18) C dX1_recordFirst_77 rfl ?_
  exact V.sub [1, 2, 0] rfl (k18 _ _ _ _ _ _ hf)
def fX1_recordFirst_p80 (D : aD) (h : aH) (a1 : Option Nat) : Option (Int32 × aH) :=
  (aIs h 21 a1).bind fun _ =>
  (fJ0_isEmpty D h a1).bind fun x2 =>
  if x2 = 0 then
  ((aIs h 21 a1).bind fun _ =>
  bnd2 (fJ39_poll D h a1) fun x5 h6 =>
  (aCast h6 [2] x5).bind fun _ =>
  (gI h6 2 0 x5).bind fun x8 =>
  some (x8, h6))
  else
  (some ((-1 : Int32), h))
theorem vX1_recordFirst_p80 {h : aH} {a1 : Option Nat} {q : Int32} {g : aH} (X : aX p l R s m meth c D n0 s0 yX1_recordFirst cX1_recordFirst 21 3338 4 (some .int) h0) (hf : fX1_recordFirst_p80 D h a1 = some (q, g)) : V p l e R s m args below meth c D n0 s0 (aEnd D below args s h0 (.inr (some (.int q)), g)) h 80 [(1, false, va_rf a1)] [] := by
  have C := X.1
  unfold fX1_recordFirst_p80 at hf
  refine v_aload_n (pc := 80) (j := 0) C dX1_recordFirst_80 rfl rfl ?_
  obtain ⟨b1, eb1, hf⟩ := oB hf
  obtain ⟨rb1, _, kb1⟩ := aIs_eq eb1
  obtain ⟨x2, ex2, hf⟩ := oB hf
  refine v_call (pc := 81) (d_U (pc := 81) C (As := []) (rest := []) rb1 kb1 nt_21 q807 q808 (fun _ hT => va_Decl_of fun _ => gN q809 rfl hT) ⟨by decide +kernel, by decide +kernel⟩ q810 q811 (by decide +kernel) yk_J0_isEmpty rfl (by decide) (by decide) (Nat.le_trans aw_0 (by decide)) rfl (mJ0_isEmpty C.st ex2) dX1_recordFirst_81) ?_
  refine v_if_eq (pc := 84) (tgt := 91) C dX1_recordFirst_84 rfl (fun hc => ?_) (fun hc => ?_)
  · rw [if_pos hc] at hf
    refine v_aload_n (pc := 91) (j := 0) C dX1_recordFirst_91 rfl rfl ?_
    obtain ⟨b4, eb4, hf⟩ := oB hf
    obtain ⟨rb4, _, kb4⟩ := aIs_eq eb4
    obtain ⟨x5, h6, ex5, hf⟩ := bnd2_eq hf
    refine v_call (pc := 92) (d_V (pc := 92) C (As := []) (rest := []) rb4 kb4 nt_21 q845 yi_J39_poll_java_util_PriorityQueue yk_J39_poll rfl (by decide) (by decide) (Nat.le_trans aw_0 (by decide)) rfl (mJ39_poll C.st ex5) dX1_recordFirst_92) ?_
    obtain ⟨_, e7, hf⟩ := oB hf
    refine v_cast (pc := 95) C q393 ct_FigureSurvey_Panel e7 dX1_recordFirst_95 ?_
    obtain ⟨x8, ex8, hf⟩ := oB hf
    refine v_getF (pc := 98) C lk_X1_505 (gI_eq ex8) dX1_recordFirst_98 ?_
    cases hf
    exact v_ireturn (pc := 101) C X.2.1 X.2.2.1 X.2.2.2.1 rfl dX1_recordFirst_101
  · rw [if_neg hc] at hf
    refine v_iconst (pc := 87) (v := (-1 : Int32)) C dX1_recordFirst_87 rfl ?_
    refine v_goto (pc := 88) (tgt := 101) C dX1_recordFirst_88 rfl ?_
    cases hf
    exact v_ireturn (pc := 101) C X.2.1 X.2.2.1 X.2.2.2.1 rfl dX1_recordFirst_101
def fX1_recordFirst_p18 (D : aD) : Nat → aH → (Option Nat) → (Option Nat) → Int32 → Option (Int32 × aH)
  | 0, _, _, _, _ => none
  | n + 1, h, a0, a1, a2 =>
  (gR h 0 1 a0).bind fun x1 =>
  (aIs h 15 x1).bind fun _ =>
  (fJ2_size D h x1).bind fun x3 =>
  if x3 ≤ a2 then
  (fX1_recordFirst_p80 D h a1)
  else
  ((gR h 0 1 a0).bind fun x5 =>
  (aIs h 15 x5).bind fun _ =>
  (fJ2_get D h x5 a2).bind fun x7 =>
  (aCast h [2] x7).bind fun _ =>
  (aIs h 0 a0).bind fun _ =>
  (fX1_isLow D h a0 x7).bind fun x11 =>
  if x11 = 0 then
  (fX1_recordFirst_p74 D (fX1_recordFirst_p18 D n) h a0 a1 a2)
  else
  ((aIs h 0 a0).bind fun _ =>
  (fX1_isDrowned D h a0 x7).bind fun x14 =>
  if x14 = 0 then
  ((gI h 2 3 x7).bind fun x16 =>
  (fJ19_bitCount D h x16).bind fun x18 =>
  if (4 : Int32) ≤ x18 then
  (fX1_recordFirst_p74 D (fX1_recordFirst_p18 D n) h a0 a1 a2)
  else
  ((aIs h 21 a1).bind fun _ =>
  bnd2 (fJ39_add D h a1 x7) fun x21 h22 =>
  fX1_recordFirst_p74 D (fX1_recordFirst_p18 D n) h22 a0 a1 a2))
  else
  (fX1_recordFirst_p74 D (fX1_recordFirst_p18 D n) h a0 a1 a2)))
theorem vX1_recordFirst_p18 (X : aX p l R s m meth c D n0 s0 yX1_recordFirst cX1_recordFirst 21 3338 4 (some .int) h0) : ∀ (n : Nat) (h : aH) (a0 : Option Nat) (a1 : Option Nat) (a2 : Int32) (q : Int32) (g : aH), fX1_recordFirst_p18 D n h a0 a1 a2 = some (q, g) → V p l e R s m args below meth c D n0 s0 (aEnd D below args s h0 (.inr (some (.int q)), g)) h 18 [(0, false, va_rf a0), (1, false, va_rf a1), (2, false, .int a2)] [] := by
  have C := X.1
  intro n
  induction n with
  | zero =>
    intro _ _ _ _ _ _ hf
    rw [fX1_recordFirst_p18] at hf
    cases hf
  | succ n ih =>
    intro h a0 a1 a2 q g hf
    rw [fX1_recordFirst_p18] at hf
    refine v_iload_n (pc := 18) (j := 2) C dX1_recordFirst_18 rfl rfl ?_
    refine v_aload_n (pc := 19) (j := 0) C dX1_recordFirst_19 rfl rfl ?_
    obtain ⟨x1, ex1, hf⟩ := oB hf
    refine v_getF (pc := 20) C lk_X1_49 (gR_eq ex1) dX1_recordFirst_20 ?_
    obtain ⟨b2, eb2, hf⟩ := oB hf
    obtain ⟨rb2, _, kb2⟩ := aIs_eq eb2
    obtain ⟨x3, ex3, hf⟩ := oB hf
    refine v_call (pc := 23) (d_V (pc := 23) C (As := []) (rest := [.int a2]) rb2 kb2 nt_15 q375 yi_J2_size_java_util_ArrayList yk_J2_size rfl (by decide) (by decide) (Nat.le_trans (aw_i aw_0) (by decide)) rfl (mJ2_size C.st ex3) dX1_recordFirst_23) ?_
    refine v_icmp_ge (pc := 26) (tgt := 80) C dX1_recordFirst_26 rfl (fun hc => ?_) (fun hc => ?_)
    · rw [if_pos hc] at hf
      exact V.sub [1] rfl (vX1_recordFirst_p80 X hf)
    · rw [if_neg hc] at hf
      refine v_aload_n (pc := 29) (j := 0) C dX1_recordFirst_29 rfl rfl ?_
      obtain ⟨x5, ex5, hf⟩ := oB hf
      refine v_getF (pc := 30) C lk_X1_49 (gR_eq ex5) dX1_recordFirst_30 ?_
      refine v_iload_n (pc := 33) (j := 2) C dX1_recordFirst_33 rfl rfl ?_
      obtain ⟨b6, eb6, hf⟩ := oB hf
      obtain ⟨rb6, _, kb6⟩ := aIs_eq eb6
      obtain ⟨x7, ex7, hf⟩ := oB hf
      refine v_call (pc := 34) (d_V (pc := 34) C (As := [.int a2]) (rest := []) rb6 kb6 nt_15 q379 yi_J2_get_java_util_ArrayList yk_J2_get rfl (by decide) (by decide) (Nat.le_trans aw_0 (by decide)) rfl (mJ2_get C.st ex7) dX1_recordFirst_34) ?_
      obtain ⟨_, e9, hf⟩ := oB hf
      refine v_cast (pc := 37) C q393 ct_FigureSurvey_Panel e9 dX1_recordFirst_37 ?_
      refine v_astore_n (pc := 40) (lv' := [(3, false, va_rf x7), (0, false, va_rf a0), (1, false, va_rf a1), (2, false, .int a2)]) C dX1_recordFirst_40 rfl (by decide) rfl ?_
      refine v_aload_n (pc := 41) (j := 1) C dX1_recordFirst_41 rfl rfl ?_
      refine v_aload_n (pc := 42) (j := 0) C dX1_recordFirst_42 rfl rfl ?_
      obtain ⟨b10, eb10, hf⟩ := oB hf
      obtain ⟨rb10, _, kb10⟩ := aIs_eq eb10
      obtain ⟨x11, ex11, hf⟩ := oB hf
      refine v_call (pc := 43) (d_V (pc := 43) C (As := [va_rf x7]) (rest := []) rb10 kb10 nt_0 q394 yi_X1_isLow_FigureSurvey yk_X1_isLow rfl (by decide) (by decide) (Nat.le_trans aw_0 (by decide)) rfl (mX1_isLow C.st ex11) dX1_recordFirst_43) ?_
      refine v_if_eq (pc := 46) (tgt := 74) C dX1_recordFirst_46 rfl (fun hc => ?_) (fun hc => ?_)
      · rw [if_pos hc] at hf
        exact V.sub [1, 2, 3] rfl (vX1_recordFirst_p74 X ih hf)
      · rw [if_neg hc] at hf
        refine v_aload_n (pc := 49) (j := 1) C dX1_recordFirst_49 rfl rfl ?_
        refine v_aload_n (pc := 50) (j := 0) C dX1_recordFirst_50 rfl rfl ?_
        obtain ⟨b13, eb13, hf⟩ := oB hf
        obtain ⟨rb13, _, kb13⟩ := aIs_eq eb13
        obtain ⟨x14, ex14, hf⟩ := oB hf
        refine v_call (pc := 51) (d_V (pc := 51) C (As := [va_rf x7]) (rest := []) rb13 kb13 nt_0 q398 yi_X1_isDrowned_FigureSurvey yk_X1_isDrowned rfl (by decide) (by decide) (Nat.le_trans aw_0 (by decide)) rfl (mX1_isDrowned C.st ex14) dX1_recordFirst_51) ?_
        refine v_if_ne (pc := 54) (tgt := 74) C dX1_recordFirst_54 rfl (fun hc => ?_) (fun hc => ?_)
        · rw [if_neg hc] at hf
          exact V.sub [1, 2, 3] rfl (vX1_recordFirst_p74 X ih hf)
        · rw [if_pos (Decidable.of_not_not hc)] at hf
          refine v_aload_n (pc := 57) (j := 0) C dX1_recordFirst_57 rfl rfl ?_
          obtain ⟨x16, ex16, hf⟩ := oB hf
          refine v_getF (pc := 58) C lk_X1_186 (gI_eq ex16) dX1_recordFirst_58 ?_
          obtain ⟨x18, ex18, hf⟩ := oB hf
          refine v_call (pc := 61) (d_S (pc := 61) C (As := [.int x16]) (rest := []) q402 q403 yk_J19_bitCount rfl (by decide) (by decide) (Nat.le_trans aw_0 (by decide)) rfl (mJ19_bitCount C.st ex18) dX1_recordFirst_61) ?_
          refine v_iconst (pc := 64) (v := (4 : Int32)) C dX1_recordFirst_64 rfl ?_
          refine v_icmp_ge (pc := 65) (tgt := 74) C dX1_recordFirst_65 rfl (fun hc => ?_) (fun hc => ?_)
          · rw [if_pos hc] at hf
            exact V.sub [1, 2, 3] rfl (vX1_recordFirst_p74 X ih hf)
          · rw [if_neg hc] at hf
            refine v_aload_n (pc := 68) (j := 2) C dX1_recordFirst_68 rfl rfl ?_
            refine v_aload_n (pc := 69) (j := 0) C dX1_recordFirst_69 rfl rfl ?_
            obtain ⟨b20, eb20, hf⟩ := oB hf
            obtain ⟨rb20, _, kb20⟩ := aIs_eq eb20
            obtain ⟨x21, h22, ex21, hf⟩ := bnd2_eq hf
            refine v_call (pc := 70) (d_V (pc := 70) C (As := [va_rf x7]) (rest := []) rb20 kb20 nt_21 q408 yi_J39_add_java_util_PriorityQueue yk_J39_add rfl (by decide) (by decide) (Nat.le_trans aw_0 (by decide)) rfl (mJ39_add C.st ex21) dX1_recordFirst_70) ?_
            refine v_pop (pc := 73) C dX1_recordFirst_73 rfl ?_
            exact V.sub [1, 2, 3] rfl (vX1_recordFirst_p74 X ih hf)
def fX1_recordFirst (D : aD) (h : aH) (a0 : Option Nat) : Option (Int32 × aH) :=
  (aMk D h (21, dfJ39)).bind fun h1 =>
  (aMk D h1 (14, dfX15)).bind fun h2 =>
  (fX15_init D h2 (some h1.1) a0).bind fun h5 =>
  (fJ39_init D h5 (some h.1) (some h1.1)).bind fun h8 =>
  fX1_recordFirst_p18 D FU h8 a0 (some h.1) (0 : Int32)
theorem vX1_recordFirst {h : aH} {a0 : Option Nat} {q : Int32} {g : aH} (X : aX p l R s m meth c D n0 s0 yX1_recordFirst cX1_recordFirst 21 3338 4 (some .int) h0) (hf : fX1_recordFirst D h a0 = some (q, g)) : V p l e R s m args below meth c D n0 s0 (aEnd D below args s h0 (.inr (some (.int q)), g)) h 0 [(0, false, va_rf a0)] [] := by
  have C := X.1
  unfold fX1_recordFirst at hf
  obtain ⟨h1, eh1, hf⟩ := oB hf
  refine v_new (pc := 0) (t := 21) (fs := dfJ39) (T := TJ39) (N := 4) C rfl in_J39 tyJ39 tyJ39_ok q270 q271 q130 dfJ39_ok rfl eh1 dX1_recordFirst_0 ?_
  refine v_dup (pc := 3) C dX1_recordFirst_3 (va_rfc _) ?_
  obtain ⟨h2, eh2, hf⟩ := oB hf
  refine v_new (pc := 4) (t := 14) (fs := dfX15) (T := TX15) (N := 1) C rfl in_X15 tyX15 tyX15_ok q272 q273 q131 dfX15_ok rfl eh2 dX1_recordFirst_4 ?_
  refine v_dup (pc := 7) C dX1_recordFirst_7 (va_rfc _) ?_
  refine v_aload_n (pc := 8) (j := 0) C dX1_recordFirst_8 rfl rfl ?_
  obtain ⟨h5, ex4, hf⟩ := oB hf
  refine v_callU (pc := 9) (d_IN (pc := 9) C (As := [va_rf a0]) (rest := [va_rf (some h1.1), va_rf (some h.1), va_rf (some h.1)]) rfl rfl rfl q274 q275 yk_X15_init rfl (by decide) (by decide) (Nat.le_trans (aw_r (aw_r (aw_r aw_0))) (by decide)) rfl (mX15_init C.st ex4) dX1_recordFirst_9) ?_
  obtain ⟨h8, ex7, hf⟩ := oB hf
  refine v_callU (pc := 12) (d_I (pc := 12) C (As := [va_rf (some h1.1)]) (rest := [va_rf (some h.1)]) rfl rfl rfl q282 q283 yk_J39_init rfl (by decide) (by decide) (Nat.le_trans (aw_r aw_0) (by decide)) rfl (mJ39_init C.st ex7) dX1_recordFirst_12) ?_
  refine v_astore_n (pc := 15) (lv' := [(1, false, va_rf (some h.1)), (0, false, va_rf a0)]) C dX1_recordFirst_15 rfl (by decide) rfl ?_
  refine v_iconst (pc := 16) (v := (0 : Int32)) C dX1_recordFirst_16 rfl ?_
  refine v_istore_n (pc := 17) (lv' := [(2, false, .int (0 : Int32)), (1, false, va_rf (some h.1)), (0, false, va_rf a0)]) C dX1_recordFirst_17 rfl (by decide) rfl ?_
  exact V.sub [2, 1, 0] rfl (vX1_recordFirst_p18 X _ _ _ _ _ _ _ hf)
theorem mX1_recordFirst {l : Launch} {D : aD} {h : aH} {a0 : Option Nat} {q : Int32} {g : aH} (hst : l.stackTraces = false) (hf : fX1_recordFirst D h a0 = some (q, g)) : aM l D yX1_recordFirst cX1_recordFirst 4 (some .int) 21 3338 [va_rf a0] h (.inr (some (.int q)), g) :=
  aM.ofX [(false, va_rf a0)] rfl (ap_r ap_0) (by decide +kernel) hst (al_of (aw_r aw_0) (by decide)) fun p e s m args below meth c X => V.sub (lv' := [(0, false, va_rf a0)]) [0] rfl (vX1_recordFirst X hf)
def fX1_bestRow_p91 (D : aD) (K18 : aH → (Option Nat) → Int32 → (Option Nat) → Int32 → Option (Option Nat × aH)) (K35 : aH → (Option Nat) → Int32 → (Option Nat) → Int32 → Int32 → Option (Option Nat × aH)) (h : aH) (a0 : Option Nat) (a1 : Int32) (a2 : Option Nat) (a4 : Int32) (a5 : Int32) : Option (Option Nat × aH) :=
  K35 h a0 a1 a2 a4 (a5 + 1)
theorem vX1_bestRow_p91 {h : aH} {K18 : aH → (Option Nat) → Int32 → (Option Nat) → Int32 → Option (Option Nat × aH)} {K35 : aH → (Option Nat) → Int32 → (Option Nat) → Int32 → Int32 → Option (Option Nat × aH)} {a0 : Option Nat} {a1 : Int32} {a2 : Option Nat} {a4 : Int32} {a5 : Int32} {q : Option Nat} {g : aH} (X : aX p l R s m meth c D n0 s0 yX1_bestRow cX1_bestRow 6 135 8 (some (.array .int)) h0) (k18 : ∀ (h : aH) (a0 : Option Nat) (a1 : Int32) (a2 : Option Nat) (a4 : Int32) (q : Option Nat) (g : aH), K18 h a0 a1 a2 a4 = some (q, g) → V p l e R s m args below meth c D n0 s0 (aEnd D below args s h0 (.inr (some (va_rf q)), g)) h 18 [(0, false, va_rf a0), (1, false, .int a1), (2, false, va_rf a2), (4, false, .int a4)] []) (k35 : ∀ (h : aH) (a0 : Option Nat) (a1 : Int32) (a2 : Option Nat) (a4 : Int32) (a5 : Int32) (q : Option Nat) (g : aH), K35 h a0 a1 a2 a4 a5 = some (q, g) → V p l e R s m args below meth c D n0 s0 (aEnd D below args s h0 (.inr (some (va_rf q)), g)) h 35 [(0, false, va_rf a0), (1, false, .int a1), (2, false, va_rf a2), (4, false, .int a4), (5, false, .int a5)] []) (hf : fX1_bestRow_p91 D K18 K35 h a0 a1 a2 a4 a5 = some (q, g)) : V p l e R s m args below meth c D n0 s0 (aEnd D below args s h0 (.inr (some (va_rf q)), g)) h 91 [(0, false, va_rf a0), (1, false, .int a1), (2, false, va_rf a2), (4, false, .int a4), (5, false, .int a5)] [] := by
  have C := X.1
  unfold fX1_bestRow_p91 at hf
  refine v_iinc (pc := 91) (j := 4) (v := (a5 + 1)) (lv' := [(5, false, .int (a5 + 1)), (0, false, va_rf a0), (1, false, .int a1), (2, false, va_rf a2), (4, false, .int a4)]) C dX1_bestRow_91 rfl rfl (by decide) rfl ?_
  refine v_goto (pc := 94) (tgt := 35) C dX1_bestRow_94 rfl ?_
  exact V.sub [1, 2, 3, 4, 0] rfl (k35 _ _ _ _ _ _ _ _ hf)
def fX1_bestRow_p97 (D : aD) (K18 : aH → (Option Nat) → Int32 → (Option Nat) → Int32 → Option (Option Nat × aH)) (h : aH) (a0 : Option Nat) (a1 : Int32) (a2 : Option Nat) (a4 : Int32) : Option (Option Nat × aH) :=
  K18 h a0 a1 a2 (a4 + (-1))
theorem vX1_bestRow_p97 {h : aH} {K18 : aH → (Option Nat) → Int32 → (Option Nat) → Int32 → Option (Option Nat × aH)} {a0 : Option Nat} {a1 : Int32} {a2 : Option Nat} {a4 : Int32} {q : Option Nat} {g : aH} (X : aX p l R s m meth c D n0 s0 yX1_bestRow cX1_bestRow 6 135 8 (some (.array .int)) h0) (k18 : ∀ (h : aH) (a0 : Option Nat) (a1 : Int32) (a2 : Option Nat) (a4 : Int32) (q : Option Nat) (g : aH), K18 h a0 a1 a2 a4 = some (q, g) → V p l e R s m args below meth c D n0 s0 (aEnd D below args s h0 (.inr (some (va_rf q)), g)) h 18 [(0, false, va_rf a0), (1, false, .int a1), (2, false, va_rf a2), (4, false, .int a4)] []) (hf : fX1_bestRow_p97 D K18 h a0 a1 a2 a4 = some (q, g)) : V p l e R s m args below meth c D n0 s0 (aEnd D below args s h0 (.inr (some (va_rf q)), g)) h 97 [(0, false, va_rf a0), (1, false, .int a1), (2, false, va_rf a2), (4, false, .int a4)] [] := by
  have C := X.1
  unfold fX1_bestRow_p97 at hf
  refine v_iinc (pc := 97) (j := 3) (v := (a4 + (-1))) (lv' := [(4, false, .int (a4 + (-1))), (0, false, va_rf a0), (1, false, .int a1), (2, false, va_rf a2)]) C dX1_bestRow_97 rfl rfl (by decide) rfl ?_
  refine v_goto (pc := 100) (tgt := 18) C dX1_bestRow_100 rfl ?_
  exact V.sub [1, 2, 3, 0] rfl (k18 _ _ _ _ _ _ _ hf)
def fX1_bestRow_p35 (D : aD) (K18 : aH → (Option Nat) → Int32 → (Option Nat) → Int32 → Option (Option Nat × aH)) : Nat → aH → (Option Nat) → Int32 → (Option Nat) → Int32 → Int32 → Option (Option Nat × aH)
  | 0, _, _, _, _, _, _ => none
  | n + 1, h, a0, a1, a2, a4, a5 =>
  if a1 ≤ a5 then
  (fX1_bestRow_p97 D K18 h a0 a1 a2 a4)
  else
  ((fX1_has_2 D h a4 a5).bind fun x2 =>
  if x2 = 0 then
  ((gR h 0 0 a0).bind fun x4 =>
  (gR h 0 0 a0).bind fun x5 =>
  (eI h x5 a4).bind fun x6 =>
  ((aLam h 113 a2).bind lmA).bind fun c8 =>
  (aIs h 8 c8).bind fun _ =>
  (fX9_price D h c8 a4 a5).bind fun x9 =>
  (gR h 0 0 a0).bind fun x11 =>
  (eI h x11 (a4 ||| ((1 : Int32) <<< (a5 &&& 31)))).bind fun x12 =>
  (fJ11_min D h x6 (x9 + x12)).bind fun x14 =>
  (sF D h 100 x4 a4 (.int x14)).bind fun h16 =>
  fX1_bestRow_p91 D K18 (fX1_bestRow_p35 D K18 n) h16 a0 a1 a2 a4 a5)
  else
  (fX1_bestRow_p91 D K18 (fX1_bestRow_p35 D K18 n) h a0 a1 a2 a4 a5))
theorem vX1_bestRow_p35 {K18 : aH → (Option Nat) → Int32 → (Option Nat) → Int32 → Option (Option Nat × aH)} (X : aX p l R s m meth c D n0 s0 yX1_bestRow cX1_bestRow 6 135 8 (some (.array .int)) h0) (k18 : ∀ (h : aH) (a0 : Option Nat) (a1 : Int32) (a2 : Option Nat) (a4 : Int32) (q : Option Nat) (g : aH), K18 h a0 a1 a2 a4 = some (q, g) → V p l e R s m args below meth c D n0 s0 (aEnd D below args s h0 (.inr (some (va_rf q)), g)) h 18 [(0, false, va_rf a0), (1, false, .int a1), (2, false, va_rf a2), (4, false, .int a4)] []) : ∀ (n : Nat) (h : aH) (a0 : Option Nat) (a1 : Int32) (a2 : Option Nat) (a4 : Int32) (a5 : Int32) (q : Option Nat) (g : aH), fX1_bestRow_p35 D K18 n h a0 a1 a2 a4 a5 = some (q, g) → V p l e R s m args below meth c D n0 s0 (aEnd D below args s h0 (.inr (some (va_rf q)), g)) h 35 [(0, false, va_rf a0), (1, false, .int a1), (2, false, va_rf a2), (4, false, .int a4), (5, false, .int a5)] [] := by
  have C := X.1
  intro n
  induction n with
  | zero =>
    intro _ _ _ _ _ _ _ _ hf
    rw [fX1_bestRow_p35] at hf
    cases hf
  | succ n ih =>
    intro h a0 a1 a2 a4 a5 q g hf
    rw [fX1_bestRow_p35] at hf
    refine v_iload (pc := 35) (j := 4) C dX1_bestRow_35 rfl ?_
    refine v_iload_n (pc := 37) (j := 1) C dX1_bestRow_37 rfl rfl ?_
    refine v_icmp_ge (pc := 38) (tgt := 97) C dX1_bestRow_38 rfl (fun hc => ?_) (fun hc => ?_)
    · rw [if_pos hc] at hf
      exact V.sub [0, 1, 2, 3] rfl (vX1_bestRow_p97 X k18 hf)
    · rw [if_neg hc] at hf
      refine v_iload (pc := 41) (j := 3) C dX1_bestRow_41 rfl ?_
      refine v_iload (pc := 43) (j := 4) C dX1_bestRow_43 rfl ?_
      obtain ⟨x2, ex2, hf⟩ := oB hf
      refine v_call (pc := 45) (d_S (pc := 45) C (As := [.int a4, .int a5]) (rest := []) q1251 q1244 yk_X1_has_2 rfl (by decide) (by decide) (Nat.le_trans aw_0 (by decide)) rfl (mX1_has_2 C.st ex2) dX1_bestRow_45) ?_
      refine v_if_ne (pc := 48) (tgt := 91) C dX1_bestRow_48 rfl (fun hc => ?_) (fun hc => ?_)
      · rw [if_neg hc] at hf
        exact V.sub [0, 1, 2, 3, 4] rfl (vX1_bestRow_p91 X k18 ih hf)
      · rw [if_pos (Decidable.of_not_not hc)] at hf
        refine v_aload_n (pc := 51) (j := 0) C dX1_bestRow_51 rfl rfl ?_
        obtain ⟨x4, ex4, hf⟩ := oB hf
        refine v_getF (pc := 52) C lk_X1_7 (gR_eq ex4) dX1_bestRow_52 ?_
        refine v_iload (pc := 55) (j := 3) C dX1_bestRow_55 rfl ?_
        refine v_aload_n (pc := 57) (j := 0) C dX1_bestRow_57 rfl rfl ?_
        obtain ⟨x5, ex5, hf⟩ := oB hf
        refine v_getF (pc := 58) C lk_X1_7 (gR_eq ex5) dX1_bestRow_58 ?_
        refine v_iload (pc := 61) (j := 3) C dX1_bestRow_61 rfl ?_
        obtain ⟨x6, ex6, hf⟩ := oB hf
        refine v_iaload (pc := 63) C ex6 dX1_bestRow_63 ?_
        refine v_aload_n (pc := 64) (j := 2) C dX1_bestRow_64 rfl rfl ?_
        refine v_iload (pc := 65) (j := 3) C dX1_bestRow_65 rfl ?_
        refine v_iload (pc := 67) (j := 4) C dX1_bestRow_67 rfl ?_
        obtain ⟨c8, eb7, hf⟩ := oB hf
        obtain ⟨b7, rb7, kb7⟩ := lmA_eq eb7
        obtain ⟨db7, fb7, hf⟩ := oB hf
        obtain ⟨rfl, _, gb7⟩ := aIs_eq fb7
        obtain ⟨x9, ex9, hf⟩ := oB hf
        refine v_call (pc := 69) (d_L (pc := 69) C (k := 3) (xs := [a4, a5]) (As := [.int a4, .int a5]) (rest := [.int x6, .int a4, va_rf x4]) lkS_3 lok_3 (by decide +kernel) ⟨rfl, rfl, by decide +kernel⟩ q1253 q1255 ⟨q1254, ⟨by decide +kernel, by decide +kernel⟩⟩ (show (parseMethodDescriptor "(II)I").map (fun d => d.parameters.length) = some 2 by decide +kernel) rb7 kb7 rfl rfl (hWalkV lDec_3 (show 2 ≤ 3 by decide) (by decide) kb7 rfl gb7 nt_8 yi_X9_price_FigureSurvey_Scene yk_X9_price rfl (mX9_price C.st ex9) (Or.inl rfl)) (by decide) (by decide) (Nat.le_trans (aw_i (aw_i (aw_r aw_0))) (by decide)) rfl dX1_bestRow_69) ?_
        refine v_aload_n (pc := 74) (j := 0) C dX1_bestRow_74 rfl rfl ?_
        obtain ⟨x11, ex11, hf⟩ := oB hf
        refine v_getF (pc := 75) C lk_X1_7 (gR_eq ex11) dX1_bestRow_75 ?_
        refine v_iload (pc := 78) (j := 3) C dX1_bestRow_78 rfl ?_
        refine v_iconst (pc := 80) (v := (1 : Int32)) C dX1_bestRow_80 rfl ?_
        refine v_iload (pc := 81) (j := 4) C dX1_bestRow_81 rfl ?_
        refine v_ishl (pc := 83) C dX1_bestRow_83 ?_
        refine v_ior (pc := 84) C dX1_bestRow_84 ?_
        obtain ⟨x12, ex12, hf⟩ := oB hf
        refine v_iaload (pc := 85) C ex12 dX1_bestRow_85 ?_
        refine v_iadd (pc := 86) C dX1_bestRow_86 ?_
        obtain ⟨x14, ex14, hf⟩ := oB hf
        refine v_call (pc := 87) (d_S (pc := 87) C (As := [.int x6, .int (x9 + x12)]) (rest := [.int a4, va_rf x4]) q1256 q477 yk_J11_min rfl (by decide) (by decide) (Nat.le_trans (aw_i (aw_r aw_0)) (by decide)) rfl (mJ11_min C.st ex14) dX1_bestRow_87) ?_
        obtain ⟨h16, eh16, hf⟩ := oB hf
        refine v_iastore (pc := 90) C eh16 dX1_bestRow_90 ?_
        exact V.sub [0, 1, 2, 3, 4] rfl (vX1_bestRow_p91 X k18 ih hf)
def fX1_bestRow_p166 (D : aD) (K114 : aH → (Option Nat) → Int32 → (Option Nat) → (Option Nat) → Int32 → Int32 → Option (Option Nat × aH)) (K123 : aH → (Option Nat) → Int32 → (Option Nat) → (Option Nat) → Int32 → Int32 → Int32 → Option (Option Nat × aH)) (h : aH) (a0 : Option Nat) (a1 : Int32) (a2 : Option Nat) (a4 : Option Nat) (a5 : Int32) (a6 : Int32) (a7 : Int32) : Option (Option Nat × aH) :=
  K123 h a0 a1 a2 a4 a5 a6 (a7 + 1)
theorem vX1_bestRow_p166 {h : aH} {K114 : aH → (Option Nat) → Int32 → (Option Nat) → (Option Nat) → Int32 → Int32 → Option (Option Nat × aH)} {K123 : aH → (Option Nat) → Int32 → (Option Nat) → (Option Nat) → Int32 → Int32 → Int32 → Option (Option Nat × aH)} {a0 : Option Nat} {a1 : Int32} {a2 : Option Nat} {a4 : Option Nat} {a5 : Int32} {a6 : Int32} {a7 : Int32} {q : Option Nat} {g : aH} (X : aX p l R s m meth c D n0 s0 yX1_bestRow cX1_bestRow 6 135 8 (some (.array .int)) h0) (k114 : ∀ (h : aH) (a0 : Option Nat) (a1 : Int32) (a2 : Option Nat) (a4 : Option Nat) (a5 : Int32) (a6 : Int32) (q : Option Nat) (g : aH), K114 h a0 a1 a2 a4 a5 a6 = some (q, g) → V p l e R s m args below meth c D n0 s0 (aEnd D below args s h0 (.inr (some (va_rf q)), g)) h 114 [(0, false, va_rf a0), (1, false, .int a1), (2, false, va_rf a2), (4, false, va_rf a4), (5, false, .int a5), (6, false, .int a6)] []) (k123 : ∀ (h : aH) (a0 : Option Nat) (a1 : Int32) (a2 : Option Nat) (a4 : Option Nat) (a5 : Int32) (a6 : Int32) (a7 : Int32) (q : Option Nat) (g : aH), K123 h a0 a1 a2 a4 a5 a6 a7 = some (q, g) → V p l e R s m args below meth c D n0 s0 (aEnd D below args s h0 (.inr (some (va_rf q)), g)) h 123 [(0, false, va_rf a0), (1, false, .int a1), (2, false, va_rf a2), (4, false, va_rf a4), (5, false, .int a5), (6, false, .int a6), (7, false, .int a7)] []) (hf : fX1_bestRow_p166 D K114 K123 h a0 a1 a2 a4 a5 a6 a7 = some (q, g)) : V p l e R s m args below meth c D n0 s0 (aEnd D below args s h0 (.inr (some (va_rf q)), g)) h 166 [(0, false, va_rf a0), (1, false, .int a1), (2, false, va_rf a2), (4, false, va_rf a4), (5, false, .int a5), (6, false, .int a6), (7, false, .int a7)] [] := by
  have C := X.1
  unfold fX1_bestRow_p166 at hf
  refine v_iinc (pc := 166) (j := 6) (v := (a7 + 1)) (lv' := [(7, false, .int (a7 + 1)), (0, false, va_rf a0), (1, false, .int a1), (2, false, va_rf a2), (4, false, va_rf a4), (5, false, .int a5), (6, false, .int a6)]) C dX1_bestRow_166 rfl rfl (by decide) rfl ?_
  refine v_goto (pc := 169) (tgt := 123) C dX1_bestRow_169 rfl ?_
  exact V.sub [1, 2, 3, 4, 5, 6, 0] rfl (k123 _ _ _ _ _ _ _ _ _ _ hf)
def fX1_bestRow_p172 (D : aD) (K114 : aH → (Option Nat) → Int32 → (Option Nat) → (Option Nat) → Int32 → Int32 → Option (Option Nat × aH)) (h : aH) (a0 : Option Nat) (a1 : Int32) (a2 : Option Nat) (a4 : Option Nat) (a5 : Int32) (a6 : Int32) (a7 : Int32) : Option (Option Nat × aH) :=
  (sF D h 100 a4 a6 (.int a7)).bind fun h1 =>
  (some ((a5 ||| ((1 : Int32) <<< (a7 &&& 31))))).bind fun x2 =>
  K114 h1 a0 a1 a2 a4 x2 (a6 + 1)
theorem vX1_bestRow_p172 {h : aH} {K114 : aH → (Option Nat) → Int32 → (Option Nat) → (Option Nat) → Int32 → Int32 → Option (Option Nat × aH)} {a0 : Option Nat} {a1 : Int32} {a2 : Option Nat} {a4 : Option Nat} {a5 : Int32} {a6 : Int32} {a7 : Int32} {q : Option Nat} {g : aH} (X : aX p l R s m meth c D n0 s0 yX1_bestRow cX1_bestRow 6 135 8 (some (.array .int)) h0) (k114 : ∀ (h : aH) (a0 : Option Nat) (a1 : Int32) (a2 : Option Nat) (a4 : Option Nat) (a5 : Int32) (a6 : Int32) (q : Option Nat) (g : aH), K114 h a0 a1 a2 a4 a5 a6 = some (q, g) → V p l e R s m args below meth c D n0 s0 (aEnd D below args s h0 (.inr (some (va_rf q)), g)) h 114 [(0, false, va_rf a0), (1, false, .int a1), (2, false, va_rf a2), (4, false, va_rf a4), (5, false, .int a5), (6, false, .int a6)] []) (hf : fX1_bestRow_p172 D K114 h a0 a1 a2 a4 a5 a6 a7 = some (q, g)) : V p l e R s m args below meth c D n0 s0 (aEnd D below args s h0 (.inr (some (va_rf q)), g)) h 172 [(0, false, va_rf a0), (1, false, .int a1), (2, false, va_rf a2), (4, false, va_rf a4), (5, false, .int a5), (6, false, .int a6), (7, false, .int a7)] [] := by
  have C := X.1
  unfold fX1_bestRow_p172 at hf
  refine v_aload (pc := 172) (j := 3) C dX1_bestRow_172 rfl ?_
  refine v_iload (pc := 174) (j := 5) C dX1_bestRow_174 rfl ?_
  refine v_iload (pc := 176) (j := 6) C dX1_bestRow_176 rfl ?_
  obtain ⟨h1, eh1, hf⟩ := oB hf
  refine v_iastore (pc := 178) C eh1 dX1_bestRow_178 ?_
  refine v_iload (pc := 179) (j := 4) C dX1_bestRow_179 rfl ?_
  refine v_iconst (pc := 181) (v := (1 : Int32)) C dX1_bestRow_181 rfl ?_
  refine v_iload (pc := 182) (j := 6) C dX1_bestRow_182 rfl ?_
  refine v_ishl (pc := 184) C dX1_bestRow_184 ?_
  refine v_ior (pc := 185) C dX1_bestRow_185 ?_
  obtain ⟨x2, ex2, hf⟩ := oB hf
  refine vst (Option.some.inj ex2) (fun z => .int z :: []) ?_
  refine v_istore (pc := 186) (lv' := [(5, false, .int x2), (0, false, va_rf a0), (1, false, .int a1), (2, false, va_rf a2), (4, false, va_rf a4), (6, false, .int a6), (7, false, .int a7)]) C dX1_bestRow_186 (by decide) rfl ?_
  refine v_iinc (pc := 188) (j := 5) (v := (a6 + 1)) (lv' := [(6, false, .int (a6 + 1)), (5, false, .int x2), (0, false, va_rf a0), (1, false, .int a1), (2, false, va_rf a2), (4, false, va_rf a4), (7, false, .int a7)]) C dX1_bestRow_188 rfl rfl (by decide) rfl ?_
  refine v_goto (pc := 191) (tgt := 114) C dX1_bestRow_191 rfl ?_
  exact V.sub [2, 3, 4, 5, 1, 0] rfl (k114 _ _ _ _ _ _ _ _ _ hf)
def fX1_bestRow_p123 (D : aD) (K114 : aH → (Option Nat) → Int32 → (Option Nat) → (Option Nat) → Int32 → Int32 → Option (Option Nat × aH)) : Nat → aH → (Option Nat) → Int32 → (Option Nat) → (Option Nat) → Int32 → Int32 → Int32 → Option (Option Nat × aH)
  | 0, _, _, _, _, _, _, _, _ => none
  | n + 1, h, a0, a1, a2, a4, a5, a6, a7 =>
  (fX1_has_2 D h a5 a7).bind fun x2 =>
  if x2 = 0 then
  (((aLam h 113 a2).bind lmA).bind fun c5 =>
  (aIs h 8 c5).bind fun _ =>
  (fX9_price D h c5 a5 a7).bind fun x6 =>
  (gR h 0 0 a0).bind fun x8 =>
  (eI h x8 (a5 ||| ((1 : Int32) <<< (a7 &&& 31)))).bind fun x9 =>
  (gR h 0 0 a0).bind fun x10 =>
  (eI h x10 a5).bind fun x11 =>
  if (x6 + x9) = x11 then
  (fX1_bestRow_p172 D K114 h a0 a1 a2 a4 a5 a6 a7)
  else
  (fX1_bestRow_p166 D K114 (fX1_bestRow_p123 D K114 n) h a0 a1 a2 a4 a5 a6 a7))
  else
  (fX1_bestRow_p166 D K114 (fX1_bestRow_p123 D K114 n) h a0 a1 a2 a4 a5 a6 a7)
theorem vX1_bestRow_p123 {K114 : aH → (Option Nat) → Int32 → (Option Nat) → (Option Nat) → Int32 → Int32 → Option (Option Nat × aH)} (X : aX p l R s m meth c D n0 s0 yX1_bestRow cX1_bestRow 6 135 8 (some (.array .int)) h0) (k114 : ∀ (h : aH) (a0 : Option Nat) (a1 : Int32) (a2 : Option Nat) (a4 : Option Nat) (a5 : Int32) (a6 : Int32) (q : Option Nat) (g : aH), K114 h a0 a1 a2 a4 a5 a6 = some (q, g) → V p l e R s m args below meth c D n0 s0 (aEnd D below args s h0 (.inr (some (va_rf q)), g)) h 114 [(0, false, va_rf a0), (1, false, .int a1), (2, false, va_rf a2), (4, false, va_rf a4), (5, false, .int a5), (6, false, .int a6)] []) : ∀ (n : Nat) (h : aH) (a0 : Option Nat) (a1 : Int32) (a2 : Option Nat) (a4 : Option Nat) (a5 : Int32) (a6 : Int32) (a7 : Int32) (q : Option Nat) (g : aH), fX1_bestRow_p123 D K114 n h a0 a1 a2 a4 a5 a6 a7 = some (q, g) → V p l e R s m args below meth c D n0 s0 (aEnd D below args s h0 (.inr (some (va_rf q)), g)) h 123 [(0, false, va_rf a0), (1, false, .int a1), (2, false, va_rf a2), (4, false, va_rf a4), (5, false, .int a5), (6, false, .int a6), (7, false, .int a7)] [] := by
  have C := X.1
  intro n
  induction n with
  | zero =>
    intro _ _ _ _ _ _ _ _ _ _ hf
    rw [fX1_bestRow_p123] at hf
    cases hf
  | succ n ih =>
    intro h a0 a1 a2 a4 a5 a6 a7 q g hf
    rw [fX1_bestRow_p123] at hf
    refine v_iload (pc := 123) (j := 4) C dX1_bestRow_123 rfl ?_
    refine v_iload (pc := 125) (j := 6) C dX1_bestRow_125 rfl ?_
    obtain ⟨x2, ex2, hf⟩ := oB hf
    refine v_call (pc := 127) (d_S (pc := 127) C (As := [.int a5, .int a7]) (rest := []) q1251 q1244 yk_X1_has_2 rfl (by decide) (by decide) (Nat.le_trans aw_0 (by decide)) rfl (mX1_has_2 C.st ex2) dX1_bestRow_127) ?_
    refine v_if_ne (pc := 130) (tgt := 166) C dX1_bestRow_130 rfl (fun hc => ?_) (fun hc => ?_)
    · rw [if_neg hc] at hf
      exact V.sub [0, 1, 2, 3, 4, 5, 6] rfl (vX1_bestRow_p166 X k114 ih hf)
    · rw [if_pos (Decidable.of_not_not hc)] at hf
      refine v_aload_n (pc := 133) (j := 2) C dX1_bestRow_133 rfl rfl ?_
      refine v_iload (pc := 134) (j := 4) C dX1_bestRow_134 rfl ?_
      refine v_iload (pc := 136) (j := 6) C dX1_bestRow_136 rfl ?_
      obtain ⟨c5, eb4, hf⟩ := oB hf
      obtain ⟨b4, rb4, kb4⟩ := lmA_eq eb4
      obtain ⟨db4, fb4, hf⟩ := oB hf
      obtain ⟨rfl, _, gb4⟩ := aIs_eq fb4
      obtain ⟨x6, ex6, hf⟩ := oB hf
      refine v_call (pc := 138) (d_L (pc := 138) C (k := 3) (xs := [a5, a7]) (As := [.int a5, .int a7]) (rest := []) lkS_3 lok_3 (by decide +kernel) ⟨rfl, rfl, by decide +kernel⟩ q1253 q1255 ⟨q1254, ⟨by decide +kernel, by decide +kernel⟩⟩ (show (parseMethodDescriptor "(II)I").map (fun d => d.parameters.length) = some 2 by decide +kernel) rb4 kb4 rfl rfl (hWalkV lDec_3 (show 2 ≤ 3 by decide) (by decide) kb4 rfl gb4 nt_8 yi_X9_price_FigureSurvey_Scene yk_X9_price rfl (mX9_price C.st ex6) (Or.inl rfl)) (by decide) (by decide) (Nat.le_trans aw_0 (by decide)) rfl dX1_bestRow_138) ?_
      refine v_aload_n (pc := 143) (j := 0) C dX1_bestRow_143 rfl rfl ?_
      obtain ⟨x8, ex8, hf⟩ := oB hf
      refine v_getF (pc := 144) C lk_X1_7 (gR_eq ex8) dX1_bestRow_144 ?_
      refine v_iload (pc := 147) (j := 4) C dX1_bestRow_147 rfl ?_
      refine v_iconst (pc := 149) (v := (1 : Int32)) C dX1_bestRow_149 rfl ?_
      refine v_iload (pc := 150) (j := 6) C dX1_bestRow_150 rfl ?_
      refine v_ishl (pc := 152) C dX1_bestRow_152 ?_
      refine v_ior (pc := 153) C dX1_bestRow_153 ?_
      obtain ⟨x9, ex9, hf⟩ := oB hf
      refine v_iaload (pc := 154) C ex9 dX1_bestRow_154 ?_
      refine v_iadd (pc := 155) C dX1_bestRow_155 ?_
      refine v_aload_n (pc := 156) (j := 0) C dX1_bestRow_156 rfl rfl ?_
      obtain ⟨x10, ex10, hf⟩ := oB hf
      refine v_getF (pc := 157) C lk_X1_7 (gR_eq ex10) dX1_bestRow_157 ?_
      refine v_iload (pc := 160) (j := 4) C dX1_bestRow_160 rfl ?_
      obtain ⟨x11, ex11, hf⟩ := oB hf
      refine v_iaload (pc := 162) C ex11 dX1_bestRow_162 ?_
      refine v_icmp_eq (pc := 163) (tgt := 172) C dX1_bestRow_163 rfl (fun hc => ?_) (fun hc => ?_)
      · rw [if_pos hc] at hf
        exact V.sub [0, 1, 2, 3, 4, 5, 6] rfl (vX1_bestRow_p172 X k114 hf)
      · rw [if_neg hc] at hf
        exact V.sub [0, 1, 2, 3, 4, 5, 6] rfl (vX1_bestRow_p166 X k114 ih hf)
def fX1_bestRow_p114 (D : aD) : Nat → aH → (Option Nat) → Int32 → (Option Nat) → (Option Nat) → Int32 → Int32 → Option (Option Nat × aH)
  | 0, _, _, _, _, _, _, _ => none
  | n + 1, h, a0, a1, a2, a4, a5, a6 =>
  if a1 ≤ a6 then
  (some (a4, h))
  else
  (fX1_bestRow_p123 D (fX1_bestRow_p114 D n) FU h a0 a1 a2 a4 a5 a6 (0 : Int32))
theorem vX1_bestRow_p114 (X : aX p l R s m meth c D n0 s0 yX1_bestRow cX1_bestRow 6 135 8 (some (.array .int)) h0) : ∀ (n : Nat) (h : aH) (a0 : Option Nat) (a1 : Int32) (a2 : Option Nat) (a4 : Option Nat) (a5 : Int32) (a6 : Int32) (q : Option Nat) (g : aH), fX1_bestRow_p114 D n h a0 a1 a2 a4 a5 a6 = some (q, g) → V p l e R s m args below meth c D n0 s0 (aEnd D below args s h0 (.inr (some (va_rf q)), g)) h 114 [(0, false, va_rf a0), (1, false, .int a1), (2, false, va_rf a2), (4, false, va_rf a4), (5, false, .int a5), (6, false, .int a6)] [] := by
  have C := X.1
  intro n
  induction n with
  | zero =>
    intro _ _ _ _ _ _ _ _ _ hf
    rw [fX1_bestRow_p114] at hf
    cases hf
  | succ n ih =>
    intro h a0 a1 a2 a4 a5 a6 q g hf
    rw [fX1_bestRow_p114] at hf
    refine v_iload (pc := 114) (j := 5) C dX1_bestRow_114 rfl ?_
    refine v_iload_n (pc := 116) (j := 1) C dX1_bestRow_116 rfl rfl ?_
    refine v_icmp_ge (pc := 117) (tgt := 194) C dX1_bestRow_117 rfl (fun hc => ?_) (fun hc => ?_)
    · rw [if_pos hc] at hf
      refine v_aload (pc := 194) (j := 3) C dX1_bestRow_194 rfl ?_
      cases hf
      exact v_areturn (pc := 196) C X.2.1 X.2.2.1 X.2.2.2.1 (Or.inr ⟨_, rfl⟩) rfl dX1_bestRow_196
    · rw [if_neg hc] at hf
      refine v_iconst (pc := 120) (v := (0 : Int32)) C dX1_bestRow_120 rfl ?_
      refine v_istore (pc := 121) (lv' := [(7, false, .int (0 : Int32)), (0, false, va_rf a0), (1, false, .int a1), (2, false, va_rf a2), (4, false, va_rf a4), (5, false, .int a5), (6, false, .int a6)]) C dX1_bestRow_121 (by decide) rfl ?_
      exact V.sub [1, 2, 3, 4, 5, 6, 0] rfl (vX1_bestRow_p123 X ih _ _ _ _ _ _ _ _ _ _ _ hf)
def fX1_bestRow_p103 (D : aD) (h : aH) (a0 : Option Nat) (a1 : Int32) (a2 : Option Nat) : Option (Option Nat × aH) :=
  (aMkA D h 100 a1 (.int 0)).bind fun h1 =>
  fX1_bestRow_p114 D FU h1 a0 a1 a2 (some h.1) (0 : Int32) (0 : Int32)
theorem vX1_bestRow_p103 {h : aH} {a0 : Option Nat} {a1 : Int32} {a2 : Option Nat} {q : Option Nat} {g : aH} (X : aX p l R s m meth c D n0 s0 yX1_bestRow cX1_bestRow 6 135 8 (some (.array .int)) h0) (hf : fX1_bestRow_p103 D h a0 a1 a2 = some (q, g)) : V p l e R s m args below meth c D n0 s0 (aEnd D below args s h0 (.inr (some (va_rf q)), g)) h 103 [(0, false, va_rf a0), (1, false, .int a1), (2, false, va_rf a2)] [] := by
  have C := X.1
  unfold fX1_bestRow_p103 at hf
  refine v_iload_n (pc := 103) (j := 1) C dX1_bestRow_103 rfl rfl ?_
  obtain ⟨h1, eh1, hf⟩ := oB hf
  refine v_newarray (pc := 104) (t := 100) (v := .int 0) C q169 rfl rfl (by decide) (by decide) rfl eh1 dX1_bestRow_104 ?_
  refine v_astore (pc := 106) (lv' := [(4, false, va_rf (some h.1)), (0, false, va_rf a0), (1, false, .int a1), (2, false, va_rf a2)]) C dX1_bestRow_106 (by decide) rfl ?_
  refine v_iconst (pc := 108) (v := (0 : Int32)) C dX1_bestRow_108 rfl ?_
  refine v_istore (pc := 109) (lv' := [(5, false, .int (0 : Int32)), (4, false, va_rf (some h.1)), (0, false, va_rf a0), (1, false, .int a1), (2, false, va_rf a2)]) C dX1_bestRow_109 (by decide) rfl ?_
  refine v_iconst (pc := 111) (v := (0 : Int32)) C dX1_bestRow_111 rfl ?_
  refine v_istore (pc := 112) (lv' := [(6, false, .int (0 : Int32)), (5, false, .int (0 : Int32)), (4, false, va_rf (some h.1)), (0, false, va_rf a0), (1, false, .int a1), (2, false, va_rf a2)]) C dX1_bestRow_112 (by decide) rfl ?_
  exact V.sub [3, 4, 5, 2, 1, 0] rfl (vX1_bestRow_p114 X _ _ _ _ _ _ _ _ _ _ hf)
def fX1_bestRow_p18 (D : aD) : Nat → aH → (Option Nat) → Int32 → (Option Nat) → Int32 → Option (Option Nat × aH)
  | 0, _, _, _, _, _ => none
  | n + 1, h, a0, a1, a2, a4 =>
  if a4 < 0 then
  (fX1_bestRow_p103 D h a0 a1 a2)
  else
  ((gR h 0 0 a0).bind fun x1 =>
  (sF D h 100 x1 a4 (.int (1000000 : Int32))).bind fun h2 =>
  fX1_bestRow_p35 D (fX1_bestRow_p18 D n) FU h2 a0 a1 a2 a4 (0 : Int32))
theorem vX1_bestRow_p18 (X : aX p l R s m meth c D n0 s0 yX1_bestRow cX1_bestRow 6 135 8 (some (.array .int)) h0) : ∀ (n : Nat) (h : aH) (a0 : Option Nat) (a1 : Int32) (a2 : Option Nat) (a4 : Int32) (q : Option Nat) (g : aH), fX1_bestRow_p18 D n h a0 a1 a2 a4 = some (q, g) → V p l e R s m args below meth c D n0 s0 (aEnd D below args s h0 (.inr (some (va_rf q)), g)) h 18 [(0, false, va_rf a0), (1, false, .int a1), (2, false, va_rf a2), (4, false, .int a4)] [] := by
  have C := X.1
  intro n
  induction n with
  | zero =>
    intro _ _ _ _ _ _ _ hf
    rw [fX1_bestRow_p18] at hf
    cases hf
  | succ n ih =>
    intro h a0 a1 a2 a4 q g hf
    rw [fX1_bestRow_p18] at hf
    refine v_iload (pc := 18) (j := 3) C dX1_bestRow_18 rfl ?_
    refine v_if_lt (pc := 20) (tgt := 103) C dX1_bestRow_20 rfl (fun hc => ?_) (fun hc => ?_)
    · rw [if_pos hc] at hf
      exact V.sub [0, 1, 2] rfl (vX1_bestRow_p103 X hf)
    · rw [if_neg hc] at hf
      refine v_aload_n (pc := 23) (j := 0) C dX1_bestRow_23 rfl rfl ?_
      obtain ⟨x1, ex1, hf⟩ := oB hf
      refine v_getF (pc := 24) C lk_X1_7 (gR_eq ex1) dX1_bestRow_24 ?_
      refine v_iload (pc := 27) (j := 3) C dX1_bestRow_27 rfl ?_
      refine v_ldc (pc := 29) (v := (1000000 : Int32)) C q1250 dX1_bestRow_29 ?_
      obtain ⟨h2, eh2, hf⟩ := oB hf
      refine v_iastore (pc := 31) C eh2 dX1_bestRow_31 ?_
      refine v_iconst (pc := 32) (v := (0 : Int32)) C dX1_bestRow_32 rfl ?_
      refine v_istore (pc := 33) (lv' := [(5, false, .int (0 : Int32)), (0, false, va_rf a0), (1, false, .int a1), (2, false, va_rf a2), (4, false, .int a4)]) C dX1_bestRow_33 (by decide) rfl ?_
      exact V.sub [1, 2, 3, 4, 0] rfl (vX1_bestRow_p35 X ih _ _ _ _ _ _ _ _ _ hf)
def fX1_bestRow (D : aD) (h : aH) (a0 : Option Nat) (a1 : Int32) (a2 : Option Nat) : Option (Option Nat × aH) :=
  (some ((((1 : Int32) <<< (a1 &&& 31)) - (1 : Int32)))).bind fun x1 =>
  (gR h 0 0 a0).bind fun x2 =>
  (sF D h 100 x2 x1 (.int (0 : Int32))).bind fun h3 =>
  (some ((x1 - (1 : Int32)))).bind fun x4 =>
  fX1_bestRow_p18 D FU h3 a0 a1 a2 x4
theorem vX1_bestRow {h : aH} {a0 : Option Nat} {a1 : Int32} {a2 : Option Nat} {q : Option Nat} {g : aH} (X : aX p l R s m meth c D n0 s0 yX1_bestRow cX1_bestRow 6 135 8 (some (.array .int)) h0) (hf : fX1_bestRow D h a0 a1 a2 = some (q, g)) : V p l e R s m args below meth c D n0 s0 (aEnd D below args s h0 (.inr (some (va_rf q)), g)) h 0 [(0, false, va_rf a0), (1, false, .int a1), (2, false, va_rf a2)] [] := by
  have C := X.1
  unfold fX1_bestRow at hf
  refine v_iconst (pc := 0) (v := (1 : Int32)) C dX1_bestRow_0 rfl ?_
  refine v_iload_n (pc := 1) (j := 1) C dX1_bestRow_1 rfl rfl ?_
  refine v_ishl (pc := 2) C dX1_bestRow_2 ?_
  refine v_iconst (pc := 3) (v := (1 : Int32)) C dX1_bestRow_3 rfl ?_
  refine v_isub (pc := 4) C dX1_bestRow_4 ?_
  obtain ⟨x1, ex1, hf⟩ := oB hf
  refine vst (Option.some.inj ex1) (fun z => .int z :: []) ?_
  refine v_istore_n (pc := 5) (lv' := [(3, false, .int x1), (0, false, va_rf a0), (1, false, .int a1), (2, false, va_rf a2)]) C dX1_bestRow_5 rfl (by decide) rfl ?_
  refine v_aload_n (pc := 6) (j := 1) C dX1_bestRow_6 rfl rfl ?_
  obtain ⟨x2, ex2, hf⟩ := oB hf
  refine v_getF (pc := 7) C lk_X1_7 (gR_eq ex2) dX1_bestRow_7 ?_
  refine v_iload_n (pc := 10) (j := 0) C dX1_bestRow_10 rfl rfl ?_
  refine v_iconst (pc := 11) (v := (0 : Int32)) C dX1_bestRow_11 rfl ?_
  obtain ⟨h3, eh3, hf⟩ := oB hf
  refine v_iastore (pc := 12) C eh3 dX1_bestRow_12 ?_
  refine v_iload_n (pc := 13) (j := 0) C dX1_bestRow_13 rfl rfl ?_
  refine v_iconst (pc := 14) (v := (1 : Int32)) C dX1_bestRow_14 rfl ?_
  refine v_isub (pc := 15) C dX1_bestRow_15 ?_
  obtain ⟨x4, ex4, hf⟩ := oB hf
  refine vst (Option.some.inj ex4) (fun z => .int z :: []) ?_
  refine v_istore (pc := 16) (lv' := [(4, false, .int x4), (3, false, .int x1), (0, false, va_rf a0), (1, false, .int a1), (2, false, va_rf a2)]) C dX1_bestRow_16 (by decide) rfl ?_
  exact V.sub [2, 3, 4, 0] rfl (vX1_bestRow_p18 X _ _ _ _ _ _ _ _ hf)
theorem mX1_bestRow {l : Launch} {D : aD} {h : aH} {a0 : Option Nat} {a1 : Int32} {a2 : Option Nat} {q : Option Nat} {g : aH} (hst : l.stackTraces = false) (hf : fX1_bestRow D h a0 a1 a2 = some (q, g)) : aM l D yX1_bestRow cX1_bestRow 8 (some (.array .int)) 6 135 [va_rf a0, .int a1, va_rf a2] h (.inr (some (va_rf q)), g) :=
  aM.ofX [(false, va_rf a0), (false, .int a1), (false, va_rf a2)] rfl (ap_r (ap_c rfl (ap_r ap_0))) (by decide +kernel) hst (al_of (aw_r (aw_i (aw_r aw_0))) (by decide)) fun p e s m args below meth c X => V.sub (lv' := [(0, false, va_rf a0), (1, false, .int a1), (2, false, va_rf a2)]) [0, 1, 2] rfl (vX1_bestRow X hf)
def fX9_lambda_bestBroken_0 (D : aD) (h : aH) (a0 : Int32) (a1 : Option Nat) (a2 : Int32) (a3 : Int32) : Option (Int32) :=
  (fX1_has_2 D h a0 a3).bind fun x2 =>
  if x2 = 0 then
  (some (0 : Int32))
  else
  (((aLam h 114 a1).bind lmA).bind fun c5 =>
  (aIs h 8 c5).bind fun _ =>
  (fX9_clash D h c5 a3 a2).bind fun x6 =>
  (ckZ x6).bind fun _ =>
  if x6 = 0 then
  (some (0 : Int32))
  else
  (some (1 : Int32)))
theorem vX9_lambda_bestBroken_0 {h : aH} {a0 : Int32} {a1 : Option Nat} {a2 : Int32} {a3 : Int32} {q : Int32} (X : aX p l R s m meth c D n0 s0 yX9_lambda_bestBroken_0 cX9_lambda_bestBroken_0 6 134 4 (some .boolean) h0) (hf : fX9_lambda_bestBroken_0 D h a0 a1 a2 a3 = some q) : V p l e R s m args below meth c D n0 s0 (aEnd D below args s h0 (.inr (some (.int q)), h)) h 0 [(0, false, .int a0), (1, false, va_rf a1), (2, false, .int a2), (3, false, .int a3)] [] := by
  have C := X.1
  unfold fX9_lambda_bestBroken_0 at hf
  refine v_iload_n (pc := 0) (j := 0) C dX9_lambda_bestBroken_0_0 rfl rfl ?_
  refine v_iload_n (pc := 1) (j := 3) C dX9_lambda_bestBroken_0_1 rfl rfl ?_
  obtain ⟨x2, ex2, hf⟩ := oB hf
  refine v_call (pc := 2) (d_SN (pc := 2) C (As := [.int a0, .int a3]) (rest := []) q1243 q1244 yk_X1_has_2 rfl (by decide) (by decide) (Nat.le_trans aw_0 (by decide)) rfl (mX1_has_2 C.st ex2) dX9_lambda_bestBroken_0_2) ?_
  refine v_if_eq (pc := 5) (tgt := 23) C dX9_lambda_bestBroken_0_5 rfl (fun hc => ?_) (fun hc => ?_)
  · rw [if_pos hc] at hf
    refine v_iconst (pc := 23) (v := (0 : Int32)) C dX9_lambda_bestBroken_0_23 rfl ?_
    cases hf
    exact v_zreturn (pc := 24) C X.2.1 X.2.2.1 X.2.2.2.1 (by decide) rfl dX9_lambda_bestBroken_0_24
  · rw [if_neg hc] at hf
    refine v_aload_n (pc := 8) (j := 1) C dX9_lambda_bestBroken_0_8 rfl rfl ?_
    refine v_iload_n (pc := 9) (j := 3) C dX9_lambda_bestBroken_0_9 rfl rfl ?_
    refine v_iload_n (pc := 10) (j := 2) C dX9_lambda_bestBroken_0_10 rfl rfl ?_
    obtain ⟨c5, eb4, hf⟩ := oB hf
    obtain ⟨b4, rb4, kb4⟩ := lmA_eq eb4
    obtain ⟨db4, fb4, hf⟩ := oB hf
    obtain ⟨rfl, _, gb4⟩ := aIs_eq fb4
    obtain ⟨x6, ex6, hf⟩ := oB hf
    obtain ⟨_, zx6, hf⟩ := oB hf
    refine v_call (pc := 11) (d_L (pc := 11) C (k := 4) (xs := [a3, a2]) (As := [.int a3, .int a2]) (rest := []) lkS_4 lok_4 (by decide +kernel) ⟨rfl, rfl, by decide +kernel⟩ q1285 q1287 ⟨q1286, ⟨by decide +kernel, by decide +kernel⟩⟩ (show (parseMethodDescriptor "(II)Z").map (fun d => d.parameters.length) = some 2 by decide +kernel) rb4 kb4 rfl rfl (hWalkV lDec_4 (show 2 ≤ 3 by decide) (by decide) kb4 rfl gb4 nt_8 yi_X9_clash_FigureSurvey_Scene yk_X9_clash rfl (mX9_clash C.st ex6) (Or.inr ⟨rfl, ckZ_eq zx6⟩)) (by decide) (by decide) (Nat.le_trans aw_0 (by decide)) rfl dX9_lambda_bestBroken_0_11) ?_
    refine v_if_eq (pc := 16) (tgt := 23) C dX9_lambda_bestBroken_0_16 rfl (fun hc => ?_) (fun hc => ?_)
    · rw [if_pos hc] at hf
      refine v_iconst (pc := 23) (v := (0 : Int32)) C dX9_lambda_bestBroken_0_23 rfl ?_
      cases hf
      exact v_zreturn (pc := 24) C X.2.1 X.2.2.1 X.2.2.2.1 (by decide) rfl dX9_lambda_bestBroken_0_24
    · rw [if_neg hc] at hf
      refine v_iconst (pc := 19) (v := (1 : Int32)) C dX9_lambda_bestBroken_0_19 rfl ?_
      refine v_goto (pc := 20) (tgt := 24) C dX9_lambda_bestBroken_0_20 rfl ?_
      cases hf
      exact v_zreturn (pc := 24) C X.2.1 X.2.2.1 X.2.2.2.1 (by decide) rfl dX9_lambda_bestBroken_0_24
theorem mX9_lambda_bestBroken_0 {l : Launch} {D : aD} {h : aH} {a0 : Int32} {a1 : Option Nat} {a2 : Int32} {a3 : Int32} {q : Int32} (hst : l.stackTraces = false) (hf : fX9_lambda_bestBroken_0 D h a0 a1 a2 a3 = some q) : aM l D yX9_lambda_bestBroken_0 cX9_lambda_bestBroken_0 4 (some .boolean) 6 134 [.int a0, va_rf a1, .int a2, .int a3] h (.inr (some (.int q)), h) :=
  aM.ofX [(false, .int a0), (false, va_rf a1), (false, .int a2), (false, .int a3)] rfl (ap_c rfl (ap_r (ap_c rfl (ap_c rfl ap_0)))) (by decide +kernel) hst (al_of (aw_i (aw_r (aw_i (aw_i aw_0)))) (by decide)) fun p e s m args below meth c X => V.sub (lv' := [(0, false, .int a0), (1, false, va_rf a1), (2, false, .int a2), (3, false, .int a3)]) [0, 1, 2, 3] rfl (vX9_lambda_bestBroken_0 X hf)
def fX1_count_L5_p22 (D : aD) (h : aH) (K4 : Int32 → (Option Nat) → Int32 → Int32 → Option (Int32)) (a0 : Int32) (a1 : Option Nat) (a2 : Int32) (a3 : Int32) : Option (Int32) :=
  K4 a0 a1 a2 (a3 + 1)
theorem vX1_count_L5_p22 {h : aH} {K4 : Int32 → (Option Nat) → Int32 → Int32 → Option (Int32)} {a0 : Int32} {a1 : Option Nat} {a2 : Int32} {a3 : Int32} {q : Int32} (X : aX p l R s m meth c D n0 s0 yX1_count cX1_count 8 178 4 (some .int) h0) (k4 : ∀ (a0 : Int32) (a1 : Option Nat) (a2 : Int32) (a3 : Int32) (q : Int32), K4 a0 a1 a2 a3 = some q → V p l e R s m args below meth c D n0 s0 (aEnd D below args s h0 (.inr (some (.int q)), h)) h 4 [(0, false, .int a0), (1, false, va_rf a1), (2, false, .int a2), (3, false, .int a3)] []) (hf : fX1_count_L5_p22 D h K4 a0 a1 a2 a3 = some q) : V p l e R s m args below meth c D n0 s0 (aEnd D below args s h0 (.inr (some (.int q)), h)) h 22 [(0, false, .int a0), (1, false, va_rf a1), (2, false, .int a2), (3, false, .int a3)] [] := by
  have C := X.1
  unfold fX1_count_L5_p22 at hf
  refine v_iinc (pc := 22) (j := 3) (v := (a3 + 1)) (lv' := [(3, false, .int (a3 + 1)), (0, false, .int a0), (1, false, va_rf a1), (2, false, .int a2)]) C dX1_count_22 rfl rfl (by decide) rfl ?_
  refine v_goto (pc := 25) (tgt := 4) C dX1_count_25 rfl ?_
  exact V.sub [1, 2, 3, 0] rfl (k4 _ _ _ _ _ hf)
def fX1_count_L5_p4 (D : aD) (h : aH) : Nat → Int32 → (Option Nat) → Int32 → Int32 → Option (Int32)
  | 0, _, _, _, _ => none
  | n + 1, a0, a1, a2, a3 =>
  if a0 ≤ a3 then
  (some a2)
  else
  (bnd3 ((aLam h 115 a1).bind lmIAI) fun c2 c3 c4 =>
  (fX9_lambda_bestBroken_0 D h c2 c3 c4 a3).bind fun x5 =>
  (ckZ x5).bind fun _ =>
  fX1_count_L5_p22 D h (fX1_count_L5_p4 D h n) a0 a1 (if x5 = 0 then a2 else (a2 + 1)) a3)
theorem vX1_count_L5_p4 {h : aH} (X : aX p l R s m meth c D n0 s0 yX1_count cX1_count 8 178 4 (some .int) h0) : ∀ (n : Nat) (a0 : Int32) (a1 : Option Nat) (a2 : Int32) (a3 : Int32) (q : Int32), fX1_count_L5_p4 D h n a0 a1 a2 a3 = some q → V p l e R s m args below meth c D n0 s0 (aEnd D below args s h0 (.inr (some (.int q)), h)) h 4 [(0, false, .int a0), (1, false, va_rf a1), (2, false, .int a2), (3, false, .int a3)] [] := by
  have C := X.1
  intro n
  induction n with
  | zero =>
    intro _ _ _ _ _ hf
    rw [fX1_count_L5_p4] at hf
    cases hf
  | succ n ih =>
    intro a0 a1 a2 a3 q hf
    rw [fX1_count_L5_p4] at hf
    refine v_iload_n (pc := 4) (j := 3) C dX1_count_4 rfl rfl ?_
    refine v_iload_n (pc := 5) (j := 0) C dX1_count_5 rfl rfl ?_
    refine v_icmp_ge (pc := 6) (tgt := 28) C dX1_count_6 rfl (fun hc => ?_) (fun hc => ?_)
    · rw [if_pos hc] at hf
      refine v_iload_n (pc := 28) (j := 2) C dX1_count_28 rfl rfl ?_
      cases hf
      exact v_ireturn (pc := 29) C X.2.1 X.2.2.1 X.2.2.2.1 rfl dX1_count_29
    · rw [if_neg hc] at hf
      refine v_aload_n (pc := 9) (j := 1) C dX1_count_9 rfl rfl ?_
      refine v_iload_n (pc := 10) (j := 3) C dX1_count_10 rfl rfl ?_
      obtain ⟨c2, c3, c4, eb1, hf⟩ := bnd3_eq hf
      obtain ⟨b1, rb1, kb1⟩ := lmIAI_eq eb1
      obtain ⟨x5, ex5, hf⟩ := oB hf
      obtain ⟨_, zx5, hf⟩ := oB hf
      refine v_call (pc := 11) (d_L (pc := 11) C (k := 5) (xs := [a3]) (As := [.int a3]) (rest := []) lkS_5 lok_5 (by decide +kernel) ⟨rfl, rfl, by decide +kernel⟩ q598 q600 ⟨q599, ⟨by decide +kernel, by decide +kernel⟩⟩ (show (parseMethodDescriptor "(I)Z").map (fun d => d.parameters.length) = some 1 by decide +kernel) rb1 kb1 rfl rfl (hWalkS lDec_5 (show 1 ≤ 3 by decide) (by decide) kb1 rfl q1282 yk_X9_lambda_bestBroken_0 rfl (mX9_lambda_bestBroken_0 C.st ex5) (Or.inr ⟨rfl, ckZ_eq zx5⟩)) (by decide) (by decide) (Nat.le_trans aw_0 (by decide)) rfl dX1_count_11) ?_
      refine v_if_eq (pc := 16) (tgt := 22) C dX1_count_16 rfl (fun hc => ?_) (fun hc => ?_)
      · simp only [if_pos hc] at hf
        exact V.sub [0, 1, 2, 3] rfl (vX1_count_L5_p22 X ih hf)
      · simp only [if_neg hc] at hf
        refine v_iinc (pc := 19) (j := 2) (v := (a2 + 1)) (lv' := [(2, false, .int (a2 + 1)), (0, false, .int a0), (1, false, va_rf a1), (3, false, .int a3)]) C dX1_count_19 rfl rfl (by decide) rfl ?_
        exact V.sub [1, 2, 0, 3] rfl (vX1_count_L5_p22 X ih hf)
def fX1_count_L5 (D : aD) (h : aH) (a0 : Int32) (a1 : Option Nat) : Option (Int32) :=
  fX1_count_L5_p4 D h FU a0 a1 (0 : Int32) (0 : Int32)
theorem vX1_count_L5 {h : aH} {a0 : Int32} {a1 : Option Nat} {q : Int32} (X : aX p l R s m meth c D n0 s0 yX1_count cX1_count 8 178 4 (some .int) h0) (hf : fX1_count_L5 D h a0 a1 = some q) : V p l e R s m args below meth c D n0 s0 (aEnd D below args s h0 (.inr (some (.int q)), h)) h 0 [(0, false, .int a0), (1, false, va_rf a1)] [] := by
  have C := X.1
  unfold fX1_count_L5 at hf
  refine v_iconst (pc := 0) (v := (0 : Int32)) C dX1_count_0 rfl ?_
  refine v_istore_n (pc := 1) (lv' := [(2, false, .int (0 : Int32)), (0, false, .int a0), (1, false, va_rf a1)]) C dX1_count_1 rfl (by decide) rfl ?_
  refine v_iconst (pc := 2) (v := (0 : Int32)) C dX1_count_2 rfl ?_
  refine v_istore_n (pc := 3) (lv' := [(3, false, .int (0 : Int32)), (2, false, .int (0 : Int32)), (0, false, .int a0), (1, false, va_rf a1)]) C dX1_count_3 rfl (by decide) rfl ?_
  exact V.sub [2, 3, 1, 0] rfl (vX1_count_L5_p4 X _ _ _ _ _ _ hf)
theorem mX1_count_L5 {l : Launch} {D : aD} {h : aH} {a0 : Int32} {a1 : Option Nat} {q : Int32} (hst : l.stackTraces = false) (hf : fX1_count_L5 D h a0 a1 = some q) : aM l D yX1_count cX1_count 4 (some .int) 8 178 [.int a0, va_rf a1] h (.inr (some (.int q)), h) :=
  aM.ofX [(false, .int a0), (false, va_rf a1)] rfl (ap_c rfl (ap_r ap_0)) (by decide +kernel) hst (al_of (aw_i (aw_r aw_0)) (by decide)) fun p e s m args below meth c X => V.sub (lv' := [(0, false, .int a0), (1, false, va_rf a1)]) [0, 1] rfl (vX1_count_L5 X hf)
def fX9_bestBroken_p39 (D : aD) (K4 : aH → (Option Nat) → (Option Nat) → Int32 → Int32 → Option (Int32 × aH)) (h : aH) (a0 : Option Nat) (a1 : Option Nat) (a2 : Int32) (a3 : Int32) : Option (Int32 × aH) :=
  K4 h a0 a1 a2 (a3 + 1)
theorem vX9_bestBroken_p39 {h : aH} {K4 : aH → (Option Nat) → (Option Nat) → Int32 → Int32 → Option (Int32 × aH)} {a0 : Option Nat} {a1 : Option Nat} {a2 : Int32} {a3 : Int32} {q : Int32} {g : aH} (X : aX p l R s m meth c D n0 s0 yX9_bestBroken cX9_bestBroken 9 3076 9 (some .int) h0) (k4 : ∀ (h : aH) (a0 : Option Nat) (a1 : Option Nat) (a2 : Int32) (a3 : Int32) (q : Int32) (g : aH), K4 h a0 a1 a2 a3 = some (q, g) → V p l e R s m args below meth c D n0 s0 (aEnd D below args s h0 (.inr (some (.int q)), g)) h 4 [(0, false, va_rf a0), (1, false, va_rf a1), (2, false, .int a2), (3, false, .int a3)] []) (hf : fX9_bestBroken_p39 D K4 h a0 a1 a2 a3 = some (q, g)) : V p l e R s m args below meth c D n0 s0 (aEnd D below args s h0 (.inr (some (.int q)), g)) h 39 [(0, false, va_rf a0), (1, false, va_rf a1), (2, false, .int a2), (3, false, .int a3)] [] := by
  have C := X.1
  unfold fX9_bestBroken_p39 at hf
  refine v_iinc (pc := 39) (j := 3) (v := (a3 + 1)) (lv' := [(3, false, .int (a3 + 1)), (0, false, va_rf a0), (1, false, va_rf a1), (2, false, .int a2)]) C dX9_bestBroken_39 rfl rfl (by decide) rfl ?_
  refine v_goto (pc := 42) (tgt := 4) C dX9_bestBroken_42 rfl ?_
  exact V.sub [1, 2, 3, 0] rfl (k4 _ _ _ _ _ _ _ hf)
def fX9_bestBroken_p113 (D : aD) (K50 : aH → (Option Nat) → (Option Nat) → Int32 → Int32 → Int32 → Option (Int32 × aH)) (K57 : aH → (Option Nat) → (Option Nat) → Int32 → Int32 → Int32 → Int32 → Int32 → Option (Int32 × aH)) (h : aH) (a0 : Option Nat) (a1 : Option Nat) (a2 : Int32) (a3 : Int32) (a4 : Int32) (a5 : Int32) (a6 : Int32) : Option (Int32 × aH) :=
  K57 h a0 a1 a2 a3 a4 a5 (a6 + 1)
theorem vX9_bestBroken_p113 {h : aH} {K50 : aH → (Option Nat) → (Option Nat) → Int32 → Int32 → Int32 → Option (Int32 × aH)} {K57 : aH → (Option Nat) → (Option Nat) → Int32 → Int32 → Int32 → Int32 → Int32 → Option (Int32 × aH)} {a0 : Option Nat} {a1 : Option Nat} {a2 : Int32} {a3 : Int32} {a4 : Int32} {a5 : Int32} {a6 : Int32} {q : Int32} {g : aH} (X : aX p l R s m meth c D n0 s0 yX9_bestBroken cX9_bestBroken 9 3076 9 (some .int) h0) (k50 : ∀ (h : aH) (a0 : Option Nat) (a1 : Option Nat) (a2 : Int32) (a3 : Int32) (a4 : Int32) (q : Int32) (g : aH), K50 h a0 a1 a2 a3 a4 = some (q, g) → V p l e R s m args below meth c D n0 s0 (aEnd D below args s h0 (.inr (some (.int q)), g)) h 50 [(0, false, va_rf a0), (1, false, va_rf a1), (2, false, .int a2), (3, false, .int a3), (4, false, .int a4)] []) (k57 : ∀ (h : aH) (a0 : Option Nat) (a1 : Option Nat) (a2 : Int32) (a3 : Int32) (a4 : Int32) (a5 : Int32) (a6 : Int32) (q : Int32) (g : aH), K57 h a0 a1 a2 a3 a4 a5 a6 = some (q, g) → V p l e R s m args below meth c D n0 s0 (aEnd D below args s h0 (.inr (some (.int q)), g)) h 57 [(0, false, va_rf a0), (1, false, va_rf a1), (2, false, .int a2), (3, false, .int a3), (4, false, .int a4), (5, false, .int a5), (6, false, .int a6)] []) (hf : fX9_bestBroken_p113 D K50 K57 h a0 a1 a2 a3 a4 a5 a6 = some (q, g)) : V p l e R s m args below meth c D n0 s0 (aEnd D below args s h0 (.inr (some (.int q)), g)) h 113 [(0, false, va_rf a0), (1, false, va_rf a1), (2, false, .int a2), (3, false, .int a3), (4, false, .int a4), (5, false, .int a5), (6, false, .int a6)] [] := by
  have C := X.1
  unfold fX9_bestBroken_p113 at hf
  refine v_iinc (pc := 113) (j := 6) (v := (a6 + 1)) (lv' := [(6, false, .int (a6 + 1)), (0, false, va_rf a0), (1, false, va_rf a1), (2, false, .int a2), (3, false, .int a3), (4, false, .int a4), (5, false, .int a5)]) C dX9_bestBroken_113 rfl rfl (by decide) rfl ?_
  refine v_goto (pc := 116) (tgt := 57) C dX9_bestBroken_116 rfl ?_
  exact V.sub [1, 2, 3, 4, 5, 6, 0] rfl (k57 _ _ _ _ _ _ _ _ _ _ hf)
def fX9_bestBroken_p161 (D : aD) (K50 : aH → (Option Nat) → (Option Nat) → Int32 → Int32 → Int32 → Option (Int32 × aH)) (h : aH) (a0 : Option Nat) (a1 : Option Nat) (a2 : Int32) (a3 : Int32) (a4 : Int32) : Option (Int32 × aH) :=
  if a4 = 0 then
  (some (a3, h))
  else
  ((some (((a4 - (1 : Int32)) &&& a2))).bind fun x1 =>
  K50 h a0 a1 a2 a3 x1)
theorem vX9_bestBroken_p161 {h : aH} {K50 : aH → (Option Nat) → (Option Nat) → Int32 → Int32 → Int32 → Option (Int32 × aH)} {a0 : Option Nat} {a1 : Option Nat} {a2 : Int32} {a3 : Int32} {a4 : Int32} {q : Int32} {g : aH} (X : aX p l R s m meth c D n0 s0 yX9_bestBroken cX9_bestBroken 9 3076 9 (some .int) h0) (k50 : ∀ (h : aH) (a0 : Option Nat) (a1 : Option Nat) (a2 : Int32) (a3 : Int32) (a4 : Int32) (q : Int32) (g : aH), K50 h a0 a1 a2 a3 a4 = some (q, g) → V p l e R s m args below meth c D n0 s0 (aEnd D below args s h0 (.inr (some (.int q)), g)) h 50 [(0, false, va_rf a0), (1, false, va_rf a1), (2, false, .int a2), (3, false, .int a3), (4, false, .int a4)] []) (hf : fX9_bestBroken_p161 D K50 h a0 a1 a2 a3 a4 = some (q, g)) : V p l e R s m args below meth c D n0 s0 (aEnd D below args s h0 (.inr (some (.int q)), g)) h 161 [(0, false, va_rf a0), (1, false, va_rf a1), (2, false, .int a2), (3, false, .int a3), (4, false, .int a4)] [] := by
  have C := X.1
  unfold fX9_bestBroken_p161 at hf
  refine v_iload (pc := 161) (j := 4) C dX9_bestBroken_161 rfl ?_
  refine v_if_ne (pc := 163) (tgt := 168) C dX9_bestBroken_163 rfl (fun hc => ?_) (fun hc => ?_)
  · rw [if_neg hc] at hf
    refine v_iload (pc := 168) (j := 4) C dX9_bestBroken_168 rfl ?_
    refine v_iconst (pc := 170) (v := (1 : Int32)) C dX9_bestBroken_170 rfl ?_
    refine v_isub (pc := 171) C dX9_bestBroken_171 ?_
    refine v_iload_n (pc := 172) (j := 2) C dX9_bestBroken_172 rfl rfl ?_
    refine v_iand (pc := 173) C dX9_bestBroken_173 ?_
    obtain ⟨x1, ex1, hf⟩ := oB hf
    refine vst (Option.some.inj ex1) (fun z => .int z :: []) ?_
    refine v_istore (pc := 174) (lv' := [(4, false, .int x1), (0, false, va_rf a0), (1, false, va_rf a1), (2, false, .int a2), (3, false, .int a3)]) C dX9_bestBroken_174 (by decide) rfl ?_
    refine v_goto (pc := 176) (tgt := 50) C dX9_bestBroken_176 rfl ?_
    exact V.sub [1, 2, 3, 4, 0] rfl (k50 _ _ _ _ _ _ _ _ hf)
  · rw [if_pos (Decidable.of_not_not hc)] at hf
    refine v_iload_n (pc := 166) (j := 3) C dX9_bestBroken_166 rfl rfl ?_
    cases hf
    exact v_ireturn (pc := 167) C X.2.1 X.2.2.1 X.2.2.2.1 rfl dX9_bestBroken_167
def fX9_bestBroken_p158 (D : aD) (K50 : aH → (Option Nat) → (Option Nat) → Int32 → Int32 → Int32 → Option (Int32 × aH)) (h : aH) (a0 : Option Nat) (a1 : Option Nat) (a2 : Int32) (a4 : Int32) (a5 : Int32) : Option (Int32 × aH) :=
  fX9_bestBroken_p161 D K50 h a0 a1 a2 a5 a4
theorem vX9_bestBroken_p158 {h : aH} {K50 : aH → (Option Nat) → (Option Nat) → Int32 → Int32 → Int32 → Option (Int32 × aH)} {a0 : Option Nat} {a1 : Option Nat} {a2 : Int32} {a4 : Int32} {a5 : Int32} {q : Int32} {g : aH} (X : aX p l R s m meth c D n0 s0 yX9_bestBroken cX9_bestBroken 9 3076 9 (some .int) h0) (k50 : ∀ (h : aH) (a0 : Option Nat) (a1 : Option Nat) (a2 : Int32) (a3 : Int32) (a4 : Int32) (q : Int32) (g : aH), K50 h a0 a1 a2 a3 a4 = some (q, g) → V p l e R s m args below meth c D n0 s0 (aEnd D below args s h0 (.inr (some (.int q)), g)) h 50 [(0, false, va_rf a0), (1, false, va_rf a1), (2, false, .int a2), (3, false, .int a3), (4, false, .int a4)] []) (hf : fX9_bestBroken_p158 D K50 h a0 a1 a2 a4 a5 = some (q, g)) : V p l e R s m args below meth c D n0 s0 (aEnd D below args s h0 (.inr (some (.int q)), g)) h 158 [(0, false, va_rf a0), (1, false, va_rf a1), (2, false, .int a2), (4, false, .int a4), (5, false, .int a5)] [] := by
  have C := X.1
  unfold fX9_bestBroken_p158 at hf
  refine v_iload (pc := 158) (j := 4) C dX9_bestBroken_158 rfl ?_
  refine v_istore_n (pc := 160) (lv' := [(3, false, .int a5), (0, false, va_rf a0), (1, false, va_rf a1), (2, false, .int a2), (4, false, .int a4), (5, false, .int a5)]) C dX9_bestBroken_160 rfl (by decide) rfl ?_
  exact V.sub [1, 2, 3, 0, 4] rfl (vX9_bestBroken_p161 X k50 hf)
def fX9_bestBroken_p119 (D : aD) (K50 : aH → (Option Nat) → (Option Nat) → Int32 → Int32 → Int32 → Option (Int32 × aH)) (h : aH) (a0 : Option Nat) (a1 : Option Nat) (a2 : Int32) (a3 : Int32) (a4 : Int32) (a5 : Int32) : Option (Int32 × aH) :=
  if a3 = (-1 : Int32) then
  (fX9_bestBroken_p158 D K50 h a0 a1 a2 a4 a5)
  else
  ((aIs h 8 a0).bind fun _ =>
  (fX9_weight D h a0 a5).bind fun x2 =>
  (aIs h 8 a0).bind fun _ =>
  (fX9_weight D h a0 a3).bind fun x5 =>
  if x2 < x5 then
  (fX9_bestBroken_p158 D K50 h a0 a1 a2 a4 a5)
  else
  ((aIs h 8 a0).bind fun _ =>
  (fX9_weight D h a0 a5).bind fun x8 =>
  (aIs h 8 a0).bind fun _ =>
  (fX9_weight D h a0 a3).bind fun x11 =>
  if x8 = x11 then
  (if a3 ≤ a5 then
  (fX9_bestBroken_p161 D K50 h a0 a1 a2 a3 a4)
  else
  (fX9_bestBroken_p158 D K50 h a0 a1 a2 a4 a5))
  else
  (fX9_bestBroken_p161 D K50 h a0 a1 a2 a3 a4)))
theorem vX9_bestBroken_p119 {h : aH} {K50 : aH → (Option Nat) → (Option Nat) → Int32 → Int32 → Int32 → Option (Int32 × aH)} {a0 : Option Nat} {a1 : Option Nat} {a2 : Int32} {a3 : Int32} {a4 : Int32} {a5 : Int32} {q : Int32} {g : aH} (X : aX p l R s m meth c D n0 s0 yX9_bestBroken cX9_bestBroken 9 3076 9 (some .int) h0) (k50 : ∀ (h : aH) (a0 : Option Nat) (a1 : Option Nat) (a2 : Int32) (a3 : Int32) (a4 : Int32) (q : Int32) (g : aH), K50 h a0 a1 a2 a3 a4 = some (q, g) → V p l e R s m args below meth c D n0 s0 (aEnd D below args s h0 (.inr (some (.int q)), g)) h 50 [(0, false, va_rf a0), (1, false, va_rf a1), (2, false, .int a2), (3, false, .int a3), (4, false, .int a4)] []) (hf : fX9_bestBroken_p119 D K50 h a0 a1 a2 a3 a4 a5 = some (q, g)) : V p l e R s m args below meth c D n0 s0 (aEnd D below args s h0 (.inr (some (.int q)), g)) h 119 [(0, false, va_rf a0), (1, false, va_rf a1), (2, false, .int a2), (3, false, .int a3), (4, false, .int a4), (5, false, .int a5)] [] := by
  have C := X.1
  unfold fX9_bestBroken_p119 at hf
  refine v_iload_n (pc := 119) (j := 3) C dX9_bestBroken_119 rfl rfl ?_
  refine v_iconst (pc := 120) (v := (-1 : Int32)) C dX9_bestBroken_120 rfl ?_
  refine v_icmp_eq (pc := 121) (tgt := 158) C dX9_bestBroken_121 rfl (fun hc => ?_) (fun hc => ?_)
  · rw [if_pos hc] at hf
    exact V.sub [0, 1, 2, 4, 5] rfl (vX9_bestBroken_p158 X k50 hf)
  · rw [if_neg hc] at hf
    refine v_aload_n (pc := 124) (j := 0) C dX9_bestBroken_124 rfl rfl ?_
    refine v_iload (pc := 125) (j := 5) C dX9_bestBroken_125 rfl ?_
    obtain ⟨b1, eb1, hf⟩ := oB hf
    obtain ⟨rb1, _, kb1⟩ := aIs_eq eb1
    obtain ⟨x2, ex2, hf⟩ := oB hf
    refine v_call (pc := 127) (d_V (pc := 127) C (As := [.int a5]) (rest := []) rb1 kb1 nt_8 q1289 yi_X9_weight_FigureSurvey_Scene yk_X9_weight rfl (by decide) (by decide) (Nat.le_trans aw_0 (by decide)) rfl (mX9_weight C.st ex2) dX9_bestBroken_127) ?_
    refine v_aload_n (pc := 130) (j := 0) C dX9_bestBroken_130 rfl rfl ?_
    refine v_iload_n (pc := 131) (j := 3) C dX9_bestBroken_131 rfl rfl ?_
    obtain ⟨b4, eb4, hf⟩ := oB hf
    obtain ⟨rb4, _, kb4⟩ := aIs_eq eb4
    obtain ⟨x5, ex5, hf⟩ := oB hf
    refine v_call (pc := 132) (d_V (pc := 132) C (As := [.int a3]) (rest := [.int x2]) rb4 kb4 nt_8 q1289 yi_X9_weight_FigureSurvey_Scene yk_X9_weight rfl (by decide) (by decide) (Nat.le_trans (aw_i aw_0) (by decide)) rfl (mX9_weight C.st ex5) dX9_bestBroken_132) ?_
    refine v_icmp_lt (pc := 135) (tgt := 158) C dX9_bestBroken_135 rfl (fun hc => ?_) (fun hc => ?_)
    · rw [if_pos hc] at hf
      exact V.sub [0, 1, 2, 4, 5] rfl (vX9_bestBroken_p158 X k50 hf)
    · rw [if_neg hc] at hf
      refine v_aload_n (pc := 138) (j := 0) C dX9_bestBroken_138 rfl rfl ?_
      refine v_iload (pc := 139) (j := 5) C dX9_bestBroken_139 rfl ?_
      obtain ⟨b7, eb7, hf⟩ := oB hf
      obtain ⟨rb7, _, kb7⟩ := aIs_eq eb7
      obtain ⟨x8, ex8, hf⟩ := oB hf
      refine v_call (pc := 141) (d_V (pc := 141) C (As := [.int a5]) (rest := []) rb7 kb7 nt_8 q1289 yi_X9_weight_FigureSurvey_Scene yk_X9_weight rfl (by decide) (by decide) (Nat.le_trans aw_0 (by decide)) rfl (mX9_weight C.st ex8) dX9_bestBroken_141) ?_
      refine v_aload_n (pc := 144) (j := 0) C dX9_bestBroken_144 rfl rfl ?_
      refine v_iload_n (pc := 145) (j := 3) C dX9_bestBroken_145 rfl rfl ?_
      obtain ⟨b10, eb10, hf⟩ := oB hf
      obtain ⟨rb10, _, kb10⟩ := aIs_eq eb10
      obtain ⟨x11, ex11, hf⟩ := oB hf
      refine v_call (pc := 146) (d_V (pc := 146) C (As := [.int a3]) (rest := [.int x8]) rb10 kb10 nt_8 q1289 yi_X9_weight_FigureSurvey_Scene yk_X9_weight rfl (by decide) (by decide) (Nat.le_trans (aw_i aw_0) (by decide)) rfl (mX9_weight C.st ex11) dX9_bestBroken_146) ?_
      refine v_icmp_ne (pc := 149) (tgt := 161) C dX9_bestBroken_149 rfl (fun hc => ?_) (fun hc => ?_)
      · rw [if_neg hc] at hf
        exact V.sub [0, 1, 2, 3, 4] rfl (vX9_bestBroken_p161 X k50 hf)
      · rw [if_pos (Decidable.of_not_not hc)] at hf
        refine v_iload (pc := 152) (j := 5) C dX9_bestBroken_152 rfl ?_
        refine v_iload_n (pc := 154) (j := 3) C dX9_bestBroken_154 rfl rfl ?_
        refine v_icmp_ge (pc := 155) (tgt := 161) C dX9_bestBroken_155 rfl (fun hc => ?_) (fun hc => ?_)
        · rw [if_pos hc] at hf
          exact V.sub [0, 1, 2, 3, 4] rfl (vX9_bestBroken_p161 X k50 hf)
        · rw [if_neg hc] at hf
          exact V.sub [0, 1, 2, 4, 5] rfl (vX9_bestBroken_p158 X k50 hf)
def fX9_bestBroken_p57 (D : aD) (K50 : aH → (Option Nat) → (Option Nat) → Int32 → Int32 → Int32 → Option (Int32 × aH)) : Nat → aH → (Option Nat) → (Option Nat) → Int32 → Int32 → Int32 → Int32 → Int32 → Option (Int32 × aH)
  | 0, _, _, _, _, _, _, _, _ => none
  | n + 1, h, a0, a1, a2, a3, a4, a5, a6 =>
  (gR h 8 3 a0).bind fun x1 =>
  (aIs h 15 x1).bind fun _ =>
  (fJ2_size D h x1).bind fun x3 =>
  if x3 ≤ a6 then
  (fX9_bestBroken_p119 D K50 h a0 a1 a2 a3 a4 a5)
  else
  ((some ((a2 &&& (a4 ^^^ (-1 : Int32))))).bind fun x5 =>
  (gR h 8 3 a0).bind fun x6 =>
  (aIs h 15 x6).bind fun _ =>
  (fJ2_size D h x6).bind fun x8 =>
  (aMk D h (115, [.int x5, va_rf a1, .int a6])).bind fun h10 =>
  (fX1_count_L5 D h10 x8 (some h.1)).bind fun x12 =>
  if x12 ≤ 0 then
  (fX9_bestBroken_p113 D K50 (fX9_bestBroken_p57 D K50 n) h10 a0 a1 a2 a3 a4 a5 a6)
  else
  ((some ((a5 ||| ((1 : Int32) <<< (a6 &&& 31))))).bind fun x14 =>
  fX9_bestBroken_p113 D K50 (fX9_bestBroken_p57 D K50 n) h10 a0 a1 a2 a3 a4 x14 a6))
theorem vX9_bestBroken_p57 {K50 : aH → (Option Nat) → (Option Nat) → Int32 → Int32 → Int32 → Option (Int32 × aH)} (X : aX p l R s m meth c D n0 s0 yX9_bestBroken cX9_bestBroken 9 3076 9 (some .int) h0) (k50 : ∀ (h : aH) (a0 : Option Nat) (a1 : Option Nat) (a2 : Int32) (a3 : Int32) (a4 : Int32) (q : Int32) (g : aH), K50 h a0 a1 a2 a3 a4 = some (q, g) → V p l e R s m args below meth c D n0 s0 (aEnd D below args s h0 (.inr (some (.int q)), g)) h 50 [(0, false, va_rf a0), (1, false, va_rf a1), (2, false, .int a2), (3, false, .int a3), (4, false, .int a4)] []) : ∀ (n : Nat) (h : aH) (a0 : Option Nat) (a1 : Option Nat) (a2 : Int32) (a3 : Int32) (a4 : Int32) (a5 : Int32) (a6 : Int32) (q : Int32) (g : aH), fX9_bestBroken_p57 D K50 n h a0 a1 a2 a3 a4 a5 a6 = some (q, g) → V p l e R s m args below meth c D n0 s0 (aEnd D below args s h0 (.inr (some (.int q)), g)) h 57 [(0, false, va_rf a0), (1, false, va_rf a1), (2, false, .int a2), (3, false, .int a3), (4, false, .int a4), (5, false, .int a5), (6, false, .int a6)] [] := by
  have C := X.1
  intro n
  induction n with
  | zero =>
    intro _ _ _ _ _ _ _ _ _ _ hf
    rw [fX9_bestBroken_p57] at hf
    cases hf
  | succ n ih =>
    intro h a0 a1 a2 a3 a4 a5 a6 q g hf
    rw [fX9_bestBroken_p57] at hf
    refine v_iload (pc := 57) (j := 6) C dX9_bestBroken_57 rfl ?_
    refine v_aload_n (pc := 59) (j := 0) C dX9_bestBroken_59 rfl rfl ?_
    obtain ⟨x1, ex1, hf⟩ := oB hf
    refine v_getF (pc := 60) C lk_X9_25 (gR_eq ex1) dX9_bestBroken_60 ?_
    obtain ⟨b2, eb2, hf⟩ := oB hf
    obtain ⟨rb2, _, kb2⟩ := aIs_eq eb2
    obtain ⟨x3, ex3, hf⟩ := oB hf
    refine v_call (pc := 63) (d_V (pc := 63) C (As := []) (rest := [.int a6]) rb2 kb2 nt_15 q870 yi_J2_size_java_util_ArrayList yk_J2_size rfl (by decide) (by decide) (Nat.le_trans (aw_i aw_0) (by decide)) rfl (mJ2_size C.st ex3) dX9_bestBroken_63) ?_
    refine v_icmp_ge (pc := 66) (tgt := 119) C dX9_bestBroken_66 rfl (fun hc => ?_) (fun hc => ?_)
    · rw [if_pos hc] at hf
      exact V.sub [0, 1, 2, 3, 4, 5] rfl (vX9_bestBroken_p119 X k50 hf)
    · rw [if_neg hc] at hf
      refine v_iload (pc := 69) (j := 6) C dX9_bestBroken_69 rfl ?_
      refine v_istore (pc := 71) (lv' := [(7, false, .int a6), (0, false, va_rf a0), (1, false, va_rf a1), (2, false, .int a2), (3, false, .int a3), (4, false, .int a4), (5, false, .int a5), (6, false, .int a6)]) C dX9_bestBroken_71 (by decide) rfl ?_
      refine v_iload_n (pc := 73) (j := 3) C dX9_bestBroken_73 rfl rfl ?_
      refine v_iload (pc := 74) (j := 5) C dX9_bestBroken_74 rfl ?_
      refine v_iconst (pc := 76) (v := (-1 : Int32)) C dX9_bestBroken_76 rfl ?_
      refine v_ixor (pc := 77) C dX9_bestBroken_77 ?_
      refine v_iand (pc := 78) C dX9_bestBroken_78 ?_
      obtain ⟨x5, ex5, hf⟩ := oB hf
      refine vst (Option.some.inj ex5) (fun z => .int z :: []) ?_
      refine v_istore (pc := 79) (lv' := [(8, false, .int x5), (7, false, .int a6), (0, false, va_rf a0), (1, false, va_rf a1), (2, false, .int a2), (3, false, .int a3), (4, false, .int a4), (5, false, .int a5), (6, false, .int a6)]) C dX9_bestBroken_79 (by decide) rfl ?_
      refine v_aload_n (pc := 81) (j := 2) C dX9_bestBroken_81 rfl rfl ?_
      obtain ⟨x6, ex6, hf⟩ := oB hf
      refine v_getF (pc := 82) C lk_X9_25 (gR_eq ex6) dX9_bestBroken_82 ?_
      obtain ⟨b7, eb7, hf⟩ := oB hf
      obtain ⟨rb7, _, kb7⟩ := aIs_eq eb7
      obtain ⟨x8, ex8, hf⟩ := oB hf
      refine v_call (pc := 85) (d_V (pc := 85) C (As := []) (rest := []) rb7 kb7 nt_15 q870 yi_J2_size_java_util_ArrayList yk_J2_size rfl (by decide) (by decide) (Nat.le_trans aw_0 (by decide)) rfl (mJ2_size C.st ex8) dX9_bestBroken_85) ?_
      refine v_iload (pc := 88) (j := 0) C dX9_bestBroken_88 rfl ?_
      refine v_aload_n (pc := 90) (j := 3) C dX9_bestBroken_90 rfl rfl ?_
      refine v_iload (pc := 91) (j := 1) C dX9_bestBroken_91 rfl ?_
      obtain ⟨h10, eh10, hf⟩ := oB hf
      refine v_lam (pc := 93) (k := 5) (vals := [.int x5, va_rf a1, .int a6]) (rest := [.int x8]) C X.2.2.2.2.2.2 lkS_5 lok_5 rfl (lvl_c rfl rfl (lvl_c rfl ft_o (lvl_c rfl rfl lvl_0))) rfl eh10 (Nat.le_trans (Nat.add_le_add_right (aw_i (aw_r (aw_i (aw_i aw_0)))) _) (by decide)) dX9_bestBroken_93 ?_
      obtain ⟨x12, ex12, hf⟩ := oB hf
      refine v_call (pc := 98) (d_SN (pc := 98) C (As := [.int x8, va_rf (some h.1)]) (rest := []) q1288 q595 yk_X1_count rfl (by decide) (by decide) (Nat.le_trans aw_0 (by decide)) rfl (mX1_count_L5 C.st ex12) dX9_bestBroken_98) ?_
      refine v_if_le (pc := 101) (tgt := 113) C dX9_bestBroken_101 rfl (fun hc => ?_) (fun hc => ?_)
      · rw [if_pos hc] at hf
        exact V.sub [2, 3, 4, 5, 6, 7, 8] rfl (vX9_bestBroken_p113 X k50 ih hf)
      · rw [if_neg hc] at hf
        refine v_iload (pc := 104) (j := 7) C dX9_bestBroken_104 rfl ?_
        refine v_iconst (pc := 106) (v := (1 : Int32)) C dX9_bestBroken_106 rfl ?_
        refine v_iload (pc := 107) (j := 8) C dX9_bestBroken_107 rfl ?_
        refine v_ishl (pc := 109) C dX9_bestBroken_109 ?_
        refine v_ior (pc := 110) C dX9_bestBroken_110 ?_
        obtain ⟨x14, ex14, hf⟩ := oB hf
        refine vst (Option.some.inj ex14) (fun z => .int z :: []) ?_
        refine v_istore (pc := 111) (lv' := [(5, false, .int x14), (8, false, .int x5), (7, false, .int a6), (0, false, va_rf a0), (1, false, va_rf a1), (2, false, .int a2), (3, false, .int a3), (4, false, .int a4), (6, false, .int a6)]) C dX9_bestBroken_111 (by decide) rfl ?_
        exact V.sub [3, 4, 5, 6, 7, 0, 8] rfl (vX9_bestBroken_p113 X k50 ih hf)
def fX9_bestBroken_p50 (D : aD) : Nat → aH → (Option Nat) → (Option Nat) → Int32 → Int32 → Int32 → Option (Int32 × aH)
  | 0, _, _, _, _, _, _ => none
  | n + 1, h, a0, a1, a2, a3, a4 =>
  fX9_bestBroken_p57 D (fX9_bestBroken_p50 D n) FU h a0 a1 a2 a3 a4 a4 (0 : Int32)
theorem vX9_bestBroken_p50 (X : aX p l R s m meth c D n0 s0 yX9_bestBroken cX9_bestBroken 9 3076 9 (some .int) h0) : ∀ (n : Nat) (h : aH) (a0 : Option Nat) (a1 : Option Nat) (a2 : Int32) (a3 : Int32) (a4 : Int32) (q : Int32) (g : aH), fX9_bestBroken_p50 D n h a0 a1 a2 a3 a4 = some (q, g) → V p l e R s m args below meth c D n0 s0 (aEnd D below args s h0 (.inr (some (.int q)), g)) h 50 [(0, false, va_rf a0), (1, false, va_rf a1), (2, false, .int a2), (3, false, .int a3), (4, false, .int a4)] [] := by
  have C := X.1
  intro n
  induction n with
  | zero =>
    intro _ _ _ _ _ _ _ _ hf
    rw [fX9_bestBroken_p50] at hf
    cases hf
  | succ n ih =>
    intro h a0 a1 a2 a3 a4 q g hf
    rw [fX9_bestBroken_p50] at hf
    refine v_iload (pc := 50) (j := 4) C dX9_bestBroken_50 rfl ?_
    refine v_istore (pc := 52) (lv' := [(5, false, .int a4), (0, false, va_rf a0), (1, false, va_rf a1), (2, false, .int a2), (3, false, .int a3), (4, false, .int a4)]) C dX9_bestBroken_52 (by decide) rfl ?_
    refine v_iconst (pc := 54) (v := (0 : Int32)) C dX9_bestBroken_54 rfl ?_
    refine v_istore (pc := 55) (lv' := [(6, false, .int (0 : Int32)), (5, false, .int a4), (0, false, va_rf a0), (1, false, va_rf a1), (2, false, .int a2), (3, false, .int a3), (4, false, .int a4)]) C dX9_bestBroken_55 (by decide) rfl ?_
    exact V.sub [2, 3, 4, 5, 6, 1, 0] rfl (vX9_bestBroken_p57 X ih _ _ _ _ _ _ _ _ _ _ _ hf)
def fX9_bestBroken_p45 (D : aD) (h : aH) (a0 : Option Nat) (a1 : Option Nat) (a2 : Int32) : Option (Int32 × aH) :=
  fX9_bestBroken_p50 D FU h a0 a1 a2 (-1 : Int32) a2
theorem vX9_bestBroken_p45 {h : aH} {a0 : Option Nat} {a1 : Option Nat} {a2 : Int32} {q : Int32} {g : aH} (X : aX p l R s m meth c D n0 s0 yX9_bestBroken cX9_bestBroken 9 3076 9 (some .int) h0) (hf : fX9_bestBroken_p45 D h a0 a1 a2 = some (q, g)) : V p l e R s m args below meth c D n0 s0 (aEnd D below args s h0 (.inr (some (.int q)), g)) h 45 [(0, false, va_rf a0), (1, false, va_rf a1), (2, false, .int a2)] [] := by
  have C := X.1
  unfold fX9_bestBroken_p45 at hf
  refine v_iconst (pc := 45) (v := (-1 : Int32)) C dX9_bestBroken_45 rfl ?_
  refine v_istore_n (pc := 46) (lv' := [(3, false, .int (-1 : Int32)), (0, false, va_rf a0), (1, false, va_rf a1), (2, false, .int a2)]) C dX9_bestBroken_46 rfl (by decide) rfl ?_
  refine v_iload_n (pc := 47) (j := 3) C dX9_bestBroken_47 rfl rfl ?_
  refine v_istore (pc := 48) (lv' := [(4, false, .int a2), (3, false, .int (-1 : Int32)), (0, false, va_rf a0), (1, false, va_rf a1), (2, false, .int a2)]) C dX9_bestBroken_48 (by decide) rfl ?_
  exact V.sub [2, 3, 4, 1, 0] rfl (vX9_bestBroken_p50 X _ _ _ _ _ _ _ _ _ hf)
def fX9_bestBroken_p4 (D : aD) : Nat → aH → (Option Nat) → (Option Nat) → Int32 → Int32 → Option (Int32 × aH)
  | 0, _, _, _, _, _ => none
  | n + 1, h, a0, a1, a2, a3 =>
  (gR h 8 3 a0).bind fun x1 =>
  (aIs h 15 x1).bind fun _ =>
  (fJ2_size D h x1).bind fun x3 =>
  if x3 ≤ a3 then
  (fX9_bestBroken_p45 D h a0 a1 a2)
  else
  ((gR h 8 3 a0).bind fun x5 =>
  (aIs h 15 x5).bind fun _ =>
  (fJ2_get D h x5 a3).bind fun x7 =>
  (aCast h [7] x7).bind fun _ =>
  (gI h 7 1 x7).bind fun x10 =>
  if x10 = (1 : Int32) then
  ((some ((a2 ||| ((1 : Int32) <<< (a3 &&& 31))))).bind fun x11 =>
  fX9_bestBroken_p39 D (fX9_bestBroken_p4 D n) h a0 a1 x11 a3)
  else
  (fX9_bestBroken_p39 D (fX9_bestBroken_p4 D n) h a0 a1 a2 a3))
theorem vX9_bestBroken_p4 (X : aX p l R s m meth c D n0 s0 yX9_bestBroken cX9_bestBroken 9 3076 9 (some .int) h0) : ∀ (n : Nat) (h : aH) (a0 : Option Nat) (a1 : Option Nat) (a2 : Int32) (a3 : Int32) (q : Int32) (g : aH), fX9_bestBroken_p4 D n h a0 a1 a2 a3 = some (q, g) → V p l e R s m args below meth c D n0 s0 (aEnd D below args s h0 (.inr (some (.int q)), g)) h 4 [(0, false, va_rf a0), (1, false, va_rf a1), (2, false, .int a2), (3, false, .int a3)] [] := by
  have C := X.1
  intro n
  induction n with
  | zero =>
    intro _ _ _ _ _ _ _ hf
    rw [fX9_bestBroken_p4] at hf
    cases hf
  | succ n ih =>
    intro h a0 a1 a2 a3 q g hf
    rw [fX9_bestBroken_p4] at hf
    refine v_iload_n (pc := 4) (j := 3) C dX9_bestBroken_4 rfl rfl ?_
    refine v_aload_n (pc := 5) (j := 0) C dX9_bestBroken_5 rfl rfl ?_
    obtain ⟨x1, ex1, hf⟩ := oB hf
    refine v_getF (pc := 6) C lk_X9_25 (gR_eq ex1) dX9_bestBroken_6 ?_
    obtain ⟨b2, eb2, hf⟩ := oB hf
    obtain ⟨rb2, _, kb2⟩ := aIs_eq eb2
    obtain ⟨x3, ex3, hf⟩ := oB hf
    refine v_call (pc := 9) (d_V (pc := 9) C (As := []) (rest := [.int a3]) rb2 kb2 nt_15 q870 yi_J2_size_java_util_ArrayList yk_J2_size rfl (by decide) (by decide) (Nat.le_trans (aw_i aw_0) (by decide)) rfl (mJ2_size C.st ex3) dX9_bestBroken_9) ?_
    refine v_icmp_ge (pc := 12) (tgt := 45) C dX9_bestBroken_12 rfl (fun hc => ?_) (fun hc => ?_)
    · rw [if_pos hc] at hf
      exact V.sub [0, 1, 2] rfl (vX9_bestBroken_p45 X hf)
    · rw [if_neg hc] at hf
      refine v_aload_n (pc := 15) (j := 0) C dX9_bestBroken_15 rfl rfl ?_
      obtain ⟨x5, ex5, hf⟩ := oB hf
      refine v_getF (pc := 16) C lk_X9_25 (gR_eq ex5) dX9_bestBroken_16 ?_
      refine v_iload_n (pc := 19) (j := 3) C dX9_bestBroken_19 rfl rfl ?_
      obtain ⟨b6, eb6, hf⟩ := oB hf
      obtain ⟨rb6, _, kb6⟩ := aIs_eq eb6
      obtain ⟨x7, ex7, hf⟩ := oB hf
      refine v_call (pc := 20) (d_V (pc := 20) C (As := [.int a3]) (rest := []) rb6 kb6 nt_15 q871 yi_J2_get_java_util_ArrayList yk_J2_get rfl (by decide) (by decide) (Nat.le_trans aw_0 (by decide)) rfl (mJ2_get C.st ex7) dX9_bestBroken_20) ?_
      obtain ⟨_, e9, hf⟩ := oB hf
      refine v_cast (pc := 23) C q1179 ct_FigureSurvey_Finding e9 dX9_bestBroken_23 ?_
      obtain ⟨x10, ex10, hf⟩ := oB hf
      refine v_getF (pc := 26) C lk_X9_85 (gI_eq ex10) dX9_bestBroken_26 ?_
      refine v_iconst (pc := 29) (v := (1 : Int32)) C dX9_bestBroken_29 rfl ?_
      refine v_icmp_ne (pc := 30) (tgt := 39) C dX9_bestBroken_30 rfl (fun hc => ?_) (fun hc => ?_)
      · rw [if_neg hc] at hf
        exact V.sub [0, 1, 2, 3] rfl (vX9_bestBroken_p39 X ih hf)
      · rw [if_pos (Decidable.of_not_not hc)] at hf
        refine v_iload_n (pc := 33) (j := 2) C dX9_bestBroken_33 rfl rfl ?_
        refine v_iconst (pc := 34) (v := (1 : Int32)) C dX9_bestBroken_34 rfl ?_
        refine v_iload_n (pc := 35) (j := 3) C dX9_bestBroken_35 rfl rfl ?_
        refine v_ishl (pc := 36) C dX9_bestBroken_36 ?_
        refine v_ior (pc := 37) C dX9_bestBroken_37 ?_
        obtain ⟨x11, ex11, hf⟩ := oB hf
        refine vst (Option.some.inj ex11) (fun z => .int z :: []) ?_
        refine v_istore_n (pc := 38) (lv' := [(2, false, .int x11), (0, false, va_rf a0), (1, false, va_rf a1), (3, false, .int a3)]) C dX9_bestBroken_38 rfl (by decide) rfl ?_
        exact V.sub [1, 2, 0, 3] rfl (vX9_bestBroken_p39 X ih hf)
def fX9_bestBroken (D : aD) (h : aH) (a0 : Option Nat) (a1 : Option Nat) : Option (Int32 × aH) :=
  fX9_bestBroken_p4 D FU h a0 a1 (0 : Int32) (0 : Int32)
theorem vX9_bestBroken {h : aH} {a0 : Option Nat} {a1 : Option Nat} {q : Int32} {g : aH} (X : aX p l R s m meth c D n0 s0 yX9_bestBroken cX9_bestBroken 9 3076 9 (some .int) h0) (hf : fX9_bestBroken D h a0 a1 = some (q, g)) : V p l e R s m args below meth c D n0 s0 (aEnd D below args s h0 (.inr (some (.int q)), g)) h 0 [(0, false, va_rf a0), (1, false, va_rf a1)] [] := by
  have C := X.1
  unfold fX9_bestBroken at hf
  refine v_iconst (pc := 0) (v := (0 : Int32)) C dX9_bestBroken_0 rfl ?_
  refine v_istore_n (pc := 1) (lv' := [(2, false, .int (0 : Int32)), (0, false, va_rf a0), (1, false, va_rf a1)]) C dX9_bestBroken_1 rfl (by decide) rfl ?_
  refine v_iconst (pc := 2) (v := (0 : Int32)) C dX9_bestBroken_2 rfl ?_
  refine v_istore_n (pc := 3) (lv' := [(3, false, .int (0 : Int32)), (2, false, .int (0 : Int32)), (0, false, va_rf a0), (1, false, va_rf a1)]) C dX9_bestBroken_3 rfl (by decide) rfl ?_
  exact V.sub [2, 3, 1, 0] rfl (vX9_bestBroken_p4 X _ _ _ _ _ _ _ _ hf)
theorem mX9_bestBroken {l : Launch} {D : aD} {h : aH} {a0 : Option Nat} {a1 : Option Nat} {q : Int32} {g : aH} (hst : l.stackTraces = false) (hf : fX9_bestBroken D h a0 a1 = some (q, g)) : aM l D yX9_bestBroken cX9_bestBroken 9 (some .int) 9 3076 [va_rf a0, va_rf a1] h (.inr (some (.int q)), g) :=
  aM.ofX [(false, va_rf a0), (false, va_rf a1)] rfl (ap_r (ap_r ap_0)) (by decide +kernel) hst (al_of (aw_r (aw_r aw_0)) (by decide)) fun p e s m args below meth c X => V.sub (lv' := [(0, false, va_rf a0), (1, false, va_rf a1)]) [0, 1] rfl (vX9_bestBroken X hf)
def fX9_init_p114 (D : aD) (K49 : aH → (Option Nat) → (Option Nat) → (Option Nat) → Int32 → Option (aH)) (h : aH) (a0 : Option Nat) (a1 : Option Nat) (a2 : Option Nat) (a3 : Int32) : Option (aH) :=
  K49 h a0 a1 a2 (a3 + 1)
theorem vX9_init_p114 {h : aH} {K49 : aH → (Option Nat) → (Option Nat) → (Option Nat) → Int32 → Option (aH)} {a0 : Option Nat} {a1 : Option Nat} {a2 : Option Nat} {a3 : Int32} {g : aH} (X : aX p l R s m meth c D n0 s0 yX9_init cX9_init 11 3116 5 (none) h0) (k49 : ∀ (h : aH) (a0 : Option Nat) (a1 : Option Nat) (a2 : Option Nat) (a3 : Int32) (g : aH), K49 h a0 a1 a2 a3 = some g → V p l e R s m args below meth c D n0 s0 (aEnd D below args s h0 (.inr none, g)) h 49 [(0, false, va_rf a0), (1, false, va_rf a1), (2, false, va_rf a2), (3, false, .int a3)] []) (hf : fX9_init_p114 D K49 h a0 a1 a2 a3 = some g) : V p l e R s m args below meth c D n0 s0 (aEnd D below args s h0 (.inr none, g)) h 114 [(0, false, va_rf a0), (1, false, va_rf a1), (2, false, va_rf a2), (3, false, .int a3)] [] := by
  have C := X.1
  unfold fX9_init_p114 at hf
  refine v_iinc (pc := 114) (j := 3) (v := (a3 + 1)) (lv' := [(3, false, .int (a3 + 1)), (0, false, va_rf a0), (1, false, va_rf a1), (2, false, va_rf a2)]) C dX9_init_114 rfl rfl (by decide) rfl ?_
  refine v_goto (pc := 117) (tgt := 49) C dX9_init_117 rfl ?_
  exact V.sub [1, 2, 3, 0] rfl (k49 _ _ _ _ _ _ hf)
def fX9_init_p316 (D : aD) (K244 : aH → (Option Nat) → Int32 → Option (aH)) (h : aH) (a0 : Option Nat) (a3 : Int32) : Option (aH) :=
  K244 h a0 (a3 + 1)
theorem vX9_init_p316 {h : aH} {K244 : aH → (Option Nat) → Int32 → Option (aH)} {a0 : Option Nat} {a3 : Int32} {g : aH} (X : aX p l R s m meth c D n0 s0 yX9_init cX9_init 11 3116 5 (none) h0) (k244 : ∀ (h : aH) (a0 : Option Nat) (a3 : Int32) (g : aH), K244 h a0 a3 = some g → V p l e R s m args below meth c D n0 s0 (aEnd D below args s h0 (.inr none, g)) h 244 [(0, false, va_rf a0), (3, false, .int a3)] []) (hf : fX9_init_p316 D K244 h a0 a3 = some g) : V p l e R s m args below meth c D n0 s0 (aEnd D below args s h0 (.inr none, g)) h 316 [(0, false, va_rf a0), (3, false, .int a3)] [] := by
  have C := X.1
  unfold fX9_init_p316 at hf
  refine v_iinc (pc := 316) (j := 1) (v := (a3 + 1)) (lv' := [(3, false, .int (a3 + 1)), (0, false, va_rf a0)]) C dX9_init_316 rfl rfl (by decide) rfl ?_
  refine v_goto (pc := 319) (tgt := 244) C dX9_init_319 rfl ?_
  exact V.sub [1, 0] rfl (k244 _ _ _ _ hf)
def fX9_init_p322 (D : aD) (h : aH) (a0 : Option Nat) : Option (aH) :=
  (aIs h 8 a0).bind fun _ =>
  (fX9_close D h a0).bind fun h3 =>
  (aMk D h3 (114, [va_rf a0])).bind fun h4 =>
  (aIs h4 8 a0).bind fun _ =>
  bnd2 (fX9_bestBroken D h4 a0 (some h3.1)) fun x6 h7 =>
  (pF D h7 8 6 a0 (.int x6)).bind fun h8 =>
  some h8
theorem vX9_init_p322 {h : aH} {a0 : Option Nat} {g : aH} (X : aX p l R s m meth c D n0 s0 yX9_init cX9_init 11 3116 5 (none) h0) (hf : fX9_init_p322 D h a0 = some g) : V p l e R s m args below meth c D n0 s0 (aEnd D below args s h0 (.inr none, g)) h 322 [(0, false, va_rf a0)] [] := by
  have C := X.1
  unfold fX9_init_p322 at hf
  refine v_aload_n (pc := 322) (j := 0) C dX9_init_322 rfl rfl ?_
  obtain ⟨b1, eb1, hf⟩ := oB hf
  obtain ⟨rb1, _, kb1⟩ := aIs_eq eb1
  obtain ⟨h3, ex2, hf⟩ := oB hf
  refine v_callU (pc := 323) (d_V (pc := 323) C (As := []) (rest := []) rb1 kb1 nt_8 q1267 yi_X9_close_FigureSurvey_Scene yk_X9_close rfl (by decide) (by decide) (Nat.le_trans aw_0 (by decide)) rfl (mX9_close C.st ex2) dX9_init_323) ?_
  refine v_aload_n (pc := 326) (j := 0) C dX9_init_326 rfl rfl ?_
  refine v_aload_n (pc := 327) (j := 0) C dX9_init_327 rfl rfl ?_
  refine v_aload_n (pc := 328) (j := 0) C dX9_init_328 rfl rfl ?_
  obtain ⟨h4, eh4, hf⟩ := oB hf
  refine v_lam (pc := 329) (k := 4) (vals := [va_rf a0]) (rest := [va_rf a0, va_rf a0]) C X.2.2.2.2.2.2 lkS_4 lok_4 rfl (lvl_c rfl ft_o lvl_0) rfl eh4 (Nat.le_trans (Nat.add_le_add_right (aw_r (aw_r (aw_r aw_0))) _) (by decide)) dX9_init_329 ?_
  obtain ⟨b5, eb5, hf⟩ := oB hf
  obtain ⟨rb5, _, kb5⟩ := aIs_eq eb5
  obtain ⟨x6, h7, ex6, hf⟩ := bnd2_eq hf
  refine v_call (pc := 334) (d_V (pc := 334) C (As := [va_rf (some h3.1)]) (rest := [va_rf a0]) rb5 kb5 nt_8 q1278 yi_X9_bestBroken_FigureSurvey_Scene yk_X9_bestBroken rfl (by decide) (by decide) (Nat.le_trans (aw_r aw_0) (by decide)) rfl (mX9_bestBroken C.st ex6) dX9_init_334) ?_
  obtain ⟨h8, eh8, hf⟩ := oB hf
  refine v_putF (pc := 337) C lk_X9_130 tyX9 tyX9_ok nmX9 (tyX9_ok 6 (by decide)) rfl rfl eh8 dX9_init_337 ?_
  cases hf
  exact v_return (pc := 340) C X.2.1 X.2.2.1 X.2.2.2.1 rfl dX9_init_340
def fX9_init_p244 (D : aD) : Nat → aH → (Option Nat) → Int32 → Option (aH)
  | 0, _, _, _ => none
  | n + 1, h, a0, a3 =>
  (gR h 8 2 a0).bind fun x1 =>
  (aIs h 15 x1).bind fun _ =>
  (fJ2_size D h x1).bind fun x3 =>
  if x3 ≤ a3 then
  (fX9_init_p322 D h a0)
  else
  ((gR h 8 2 a0).bind fun x5 =>
  (aIs h 15 x5).bind fun _ =>
  (fJ2_get D h x5 a3).bind fun x7 =>
  (aCast h [7] x7).bind fun _ =>
  (aIs h 8 a0).bind fun _ =>
  (fX9_isBroken D h a0 x7).bind fun x11 =>
  if x11 = 0 then
  ((gR h 8 5 a0).bind fun x13 =>
  (gR h 8 2 a0).bind fun x14 =>
  (aIs h 15 x14).bind fun _ =>
  (fJ2_get D h x14 a3).bind fun x16 =>
  (aCast h [7] x16).bind fun _ =>
  (gR h 7 2 x16).bind fun x19 =>
  (aIs h 8 a0).bind fun _ =>
  (fX9_index D h a0 x19).bind fun x21 =>
  (eR h x13 x21).bind fun x23 =>
  (gR h 8 2 a0).bind fun x24 =>
  (aIs h 15 x24).bind fun _ =>
  (fJ2_get D h x24 a3).bind fun x26 =>
  (aCast h [7] x26).bind fun _ =>
  (gR h 7 3 x26).bind fun x29 =>
  (aIs h 8 a0).bind fun _ =>
  (fX9_index D h a0 x29).bind fun x31 =>
  (sF D h 102 x23 x31 (.int (1 : Int32))).bind fun h33 =>
  fX9_init_p316 D (fX9_init_p244 D n) h33 a0 a3)
  else
  (fX9_init_p316 D (fX9_init_p244 D n) h a0 a3))
theorem vX9_init_p244 (X : aX p l R s m meth c D n0 s0 yX9_init cX9_init 11 3116 5 (none) h0) : ∀ (n : Nat) (h : aH) (a0 : Option Nat) (a3 : Int32) (g : aH), fX9_init_p244 D n h a0 a3 = some g → V p l e R s m args below meth c D n0 s0 (aEnd D below args s h0 (.inr none, g)) h 244 [(0, false, va_rf a0), (3, false, .int a3)] [] := by
  have C := X.1
  intro n
  induction n with
  | zero =>
    intro _ _ _ _ hf
    rw [fX9_init_p244] at hf
    cases hf
  | succ n ih =>
    intro h a0 a3 g hf
    rw [fX9_init_p244] at hf
    refine v_iload_n (pc := 244) (j := 1) C dX9_init_244 rfl rfl ?_
    refine v_aload_n (pc := 245) (j := 0) C dX9_init_245 rfl rfl ?_
    obtain ⟨x1, ex1, hf⟩ := oB hf
    refine v_getF (pc := 246) C lk_X9_22 (gR_eq ex1) dX9_init_246 ?_
    obtain ⟨b2, eb2, hf⟩ := oB hf
    obtain ⟨rb2, _, kb2⟩ := aIs_eq eb2
    obtain ⟨x3, ex3, hf⟩ := oB hf
    refine v_call (pc := 249) (d_V (pc := 249) C (As := []) (rest := [.int a3]) rb2 kb2 nt_15 q870 yi_J2_size_java_util_ArrayList yk_J2_size rfl (by decide) (by decide) (Nat.le_trans (aw_i aw_0) (by decide)) rfl (mJ2_size C.st ex3) dX9_init_249) ?_
    refine v_icmp_ge (pc := 252) (tgt := 322) C dX9_init_252 rfl (fun hc => ?_) (fun hc => ?_)
    · rw [if_pos hc] at hf
      exact V.sub [0] rfl (vX9_init_p322 X hf)
    · rw [if_neg hc] at hf
      refine v_aload_n (pc := 255) (j := 0) C dX9_init_255 rfl rfl ?_
      refine v_aload_n (pc := 256) (j := 0) C dX9_init_256 rfl rfl ?_
      obtain ⟨x5, ex5, hf⟩ := oB hf
      refine v_getF (pc := 257) C lk_X9_22 (gR_eq ex5) dX9_init_257 ?_
      refine v_iload_n (pc := 260) (j := 1) C dX9_init_260 rfl rfl ?_
      obtain ⟨b6, eb6, hf⟩ := oB hf
      obtain ⟨rb6, _, kb6⟩ := aIs_eq eb6
      obtain ⟨x7, ex7, hf⟩ := oB hf
      refine v_call (pc := 261) (d_V (pc := 261) C (As := [.int a3]) (rest := [va_rf a0]) rb6 kb6 nt_15 q871 yi_J2_get_java_util_ArrayList yk_J2_get rfl (by decide) (by decide) (Nat.le_trans (aw_r aw_0) (by decide)) rfl (mJ2_get C.st ex7) dX9_init_261) ?_
      obtain ⟨_, e9, hf⟩ := oB hf
      refine v_cast (pc := 264) C q1179 ct_FigureSurvey_Finding e9 dX9_init_264 ?_
      obtain ⟨b10, eb10, hf⟩ := oB hf
      obtain ⟨rb10, _, kb10⟩ := aIs_eq eb10
      obtain ⟨x11, ex11, hf⟩ := oB hf
      refine v_call (pc := 267) (d_V (pc := 267) C (As := [va_rf x7]) (rest := []) rb10 kb10 nt_8 q1259 yi_X9_isBroken_FigureSurvey_Scene yk_X9_isBroken rfl (by decide) (by decide) (Nat.le_trans aw_0 (by decide)) rfl (mX9_isBroken C.st ex11) dX9_init_267) ?_
      refine v_if_ne (pc := 270) (tgt := 316) C dX9_init_270 rfl (fun hc => ?_) (fun hc => ?_)
      · rw [if_neg hc] at hf
        exact V.sub [0, 1] rfl (vX9_init_p316 X ih hf)
      · rw [if_pos (Decidable.of_not_not hc)] at hf
        refine v_aload_n (pc := 273) (j := 0) C dX9_init_273 rfl rfl ?_
        obtain ⟨x13, ex13, hf⟩ := oB hf
        refine v_getF (pc := 274) C lk_X9_103 (gR_eq ex13) dX9_init_274 ?_
        refine v_aload_n (pc := 277) (j := 0) C dX9_init_277 rfl rfl ?_
        refine v_aload_n (pc := 278) (j := 0) C dX9_init_278 rfl rfl ?_
        obtain ⟨x14, ex14, hf⟩ := oB hf
        refine v_getF (pc := 279) C lk_X9_22 (gR_eq ex14) dX9_init_279 ?_
        refine v_iload_n (pc := 282) (j := 1) C dX9_init_282 rfl rfl ?_
        obtain ⟨b15, eb15, hf⟩ := oB hf
        obtain ⟨rb15, _, kb15⟩ := aIs_eq eb15
        obtain ⟨x16, ex16, hf⟩ := oB hf
        refine v_call (pc := 283) (d_V (pc := 283) C (As := [.int a3]) (rest := [va_rf a0, va_rf x13]) rb15 kb15 nt_15 q871 yi_J2_get_java_util_ArrayList yk_J2_get rfl (by decide) (by decide) (Nat.le_trans (aw_r (aw_r aw_0)) (by decide)) rfl (mJ2_get C.st ex16) dX9_init_283) ?_
        obtain ⟨_, e18, hf⟩ := oB hf
        refine v_cast (pc := 286) C q1179 ct_FigureSurvey_Finding e18 dX9_init_286 ?_
        obtain ⟨x19, ex19, hf⟩ := oB hf
        refine v_getF (pc := 289) C lk_X9_109 (gR_eq ex19) dX9_init_289 ?_
        obtain ⟨b20, eb20, hf⟩ := oB hf
        obtain ⟨rb20, _, kb20⟩ := aIs_eq eb20
        obtain ⟨x21, ex21, hf⟩ := oB hf
        refine v_call (pc := 292) (d_V (pc := 292) C (As := [va_rf x19]) (rest := [va_rf x13]) rb20 kb20 nt_8 q1188 yi_X9_index_FigureSurvey_Scene yk_X9_index rfl (by decide) (by decide) (Nat.le_trans (aw_r aw_0) (by decide)) rfl (mX9_index C.st ex21) dX9_init_292) ?_
        obtain ⟨x23, ex23, hf⟩ := oB hf
        refine v_aaload (pc := 295) C ex23 dX9_init_295 ?_
        refine v_aload_n (pc := 296) (j := 0) C dX9_init_296 rfl rfl ?_
        refine v_aload_n (pc := 297) (j := 0) C dX9_init_297 rfl rfl ?_
        obtain ⟨x24, ex24, hf⟩ := oB hf
        refine v_getF (pc := 298) C lk_X9_22 (gR_eq ex24) dX9_init_298 ?_
        refine v_iload_n (pc := 301) (j := 1) C dX9_init_301 rfl rfl ?_
        obtain ⟨b25, eb25, hf⟩ := oB hf
        obtain ⟨rb25, _, kb25⟩ := aIs_eq eb25
        obtain ⟨x26, ex26, hf⟩ := oB hf
        refine v_call (pc := 302) (d_V (pc := 302) C (As := [.int a3]) (rest := [va_rf a0, va_rf x23]) rb25 kb25 nt_15 q871 yi_J2_get_java_util_ArrayList yk_J2_get rfl (by decide) (by decide) (Nat.le_trans (aw_r (aw_r aw_0)) (by decide)) rfl (mJ2_get C.st ex26) dX9_init_302) ?_
        obtain ⟨_, e28, hf⟩ := oB hf
        refine v_cast (pc := 305) C q1179 ct_FigureSurvey_Finding e28 dX9_init_305 ?_
        obtain ⟨x29, ex29, hf⟩ := oB hf
        refine v_getF (pc := 308) C lk_X9_117 (gR_eq ex29) dX9_init_308 ?_
        obtain ⟨b30, eb30, hf⟩ := oB hf
        obtain ⟨rb30, _, kb30⟩ := aIs_eq eb30
        obtain ⟨x31, ex31, hf⟩ := oB hf
        refine v_call (pc := 311) (d_V (pc := 311) C (As := [va_rf x29]) (rest := [va_rf x23]) rb30 kb30 nt_8 q1188 yi_X9_index_FigureSurvey_Scene yk_X9_index rfl (by decide) (by decide) (Nat.le_trans (aw_r aw_0) (by decide)) rfl (mX9_index C.st ex31) dX9_init_311) ?_
        refine v_iconst (pc := 314) (v := (1 : Int32)) C dX9_init_314 rfl ?_
        obtain ⟨h33, eh33, hf⟩ := oB hf
        refine v_bastore (pc := 315) C (by decide) eh33 dX9_init_315 ?_
        exact V.sub [0, 1] rfl (vX9_init_p316 X ih hf)
def fX9_init_p199 (D : aD) (h : aH) (a0 : Option Nat) (a1 : Option Nat) : Option (aH) :=
  (gR h 8 1 a0).bind fun x1 =>
  (aIs h 15 x1).bind fun _ =>
  (fJ2_size D h x1).bind fun x3 =>
  (aMk D h (113, [va_rf a0])).bind fun h5 =>
  (aIs h5 0 a1).bind fun _ =>
  bnd2 (fX1_bestRow D h5 a1 x3 (some h.1)) fun x7 h8 =>
  (pF D h8 8 4 a0 (va_rf x7)).bind fun h9 =>
  (gR h9 8 1 a0).bind fun x10 =>
  (aIs h9 15 x10).bind fun _ =>
  (fJ2_size D h9 x10).bind fun x12 =>
  (gR h9 8 1 a0).bind fun x14 =>
  (aIs h9 15 x14).bind fun _ =>
  (fJ2_size D h9 x14).bind fun x16 =>
  (aMk2 D h9 105 102 x12 x16 (.int 0)).bind fun h18 =>
  (pF D h18 8 5 a0 (va_rf (some h9.1))).bind fun h19 =>
  fX9_init_p244 D FU h19 a0 (0 : Int32)
theorem vX9_init_p199 {h : aH} {a0 : Option Nat} {a1 : Option Nat} {g : aH} (X : aX p l R s m meth c D n0 s0 yX9_init cX9_init 11 3116 5 (none) h0) (hf : fX9_init_p199 D h a0 a1 = some g) : V p l e R s m args below meth c D n0 s0 (aEnd D below args s h0 (.inr none, g)) h 199 [(0, false, va_rf a0), (1, false, va_rf a1)] [] := by
  have C := X.1
  unfold fX9_init_p199 at hf
  refine v_aload_n (pc := 199) (j := 0) C dX9_init_199 rfl rfl ?_
  refine v_aload_n (pc := 200) (j := 1) C dX9_init_200 rfl rfl ?_
  refine v_aload_n (pc := 201) (j := 0) C dX9_init_201 rfl rfl ?_
  obtain ⟨x1, ex1, hf⟩ := oB hf
  refine v_getF (pc := 202) C lk_X9_18 (gR_eq ex1) dX9_init_202 ?_
  obtain ⟨b2, eb2, hf⟩ := oB hf
  obtain ⟨rb2, _, kb2⟩ := aIs_eq eb2
  obtain ⟨x3, ex3, hf⟩ := oB hf
  refine v_call (pc := 205) (d_V (pc := 205) C (As := []) (rest := [va_rf a1, va_rf a0]) rb2 kb2 nt_15 q870 yi_J2_size_java_util_ArrayList yk_J2_size rfl (by decide) (by decide) (Nat.le_trans (aw_r (aw_r aw_0)) (by decide)) rfl (mJ2_size C.st ex3) dX9_init_205) ?_
  refine v_aload_n (pc := 208) (j := 0) C dX9_init_208 rfl rfl ?_
  obtain ⟨h5, eh5, hf⟩ := oB hf
  refine v_lam (pc := 209) (k := 3) (vals := [va_rf a0]) (rest := [.int x3, va_rf a1, va_rf a0]) C X.2.2.2.2.2.2 lkS_3 lok_3 rfl (lvl_c rfl ft_o lvl_0) rfl eh5 (Nat.le_trans (Nat.add_le_add_right (aw_r (aw_i (aw_r (aw_r aw_0)))) _) (by decide)) dX9_init_209 ?_
  obtain ⟨b6, eb6, hf⟩ := oB hf
  obtain ⟨rb6, _, kb6⟩ := aIs_eq eb6
  obtain ⟨x7, h8, ex7, hf⟩ := bnd2_eq hf
  refine v_call (pc := 214) (d_VN (pc := 214) C (As := [.int x3, va_rf (some h.1)]) (rest := [va_rf a0]) rb6 kb6 nt_0 q1246 yi_X1_bestRow_FigureSurvey yk_X1_bestRow rfl (by decide) (by decide) (Nat.le_trans (aw_r aw_0) (by decide)) rfl (mX1_bestRow C.st ex7) dX9_init_214) ?_
  obtain ⟨h9, eh9, hf⟩ := oB hf
  refine v_putC (pc := 217) C X.2.2.2.2.2.1 lk_X9_97 rfl q1298 tyX9 tyX9_ok nmX9 (tyX9_ok 4 (by decide)) rfl ft_a eh9 dX9_init_217 ?_
  refine v_aload_n (pc := 220) (j := 0) C dX9_init_220 rfl rfl ?_
  refine v_aload_n (pc := 221) (j := 0) C dX9_init_221 rfl rfl ?_
  obtain ⟨x10, ex10, hf⟩ := oB hf
  refine v_getF (pc := 222) C lk_X9_18 (gR_eq ex10) dX9_init_222 ?_
  obtain ⟨b11, eb11, hf⟩ := oB hf
  obtain ⟨rb11, _, kb11⟩ := aIs_eq eb11
  obtain ⟨x12, ex12, hf⟩ := oB hf
  refine v_call (pc := 225) (d_V (pc := 225) C (As := []) (rest := [va_rf a0]) rb11 kb11 nt_15 q870 yi_J2_size_java_util_ArrayList yk_J2_size rfl (by decide) (by decide) (Nat.le_trans (aw_r aw_0) (by decide)) rfl (mJ2_size C.st ex12) dX9_init_225) ?_
  refine v_aload_n (pc := 228) (j := 0) C dX9_init_228 rfl rfl ?_
  obtain ⟨x14, ex14, hf⟩ := oB hf
  refine v_getF (pc := 229) C lk_X9_18 (gR_eq ex14) dX9_init_229 ?_
  obtain ⟨b15, eb15, hf⟩ := oB hf
  obtain ⟨rb15, _, kb15⟩ := aIs_eq eb15
  obtain ⟨x16, ex16, hf⟩ := oB hf
  refine v_call (pc := 232) (d_V (pc := 232) C (As := []) (rest := [.int x12, va_rf a0]) rb15 kb15 nt_15 q870 yi_J2_size_java_util_ArrayList yk_J2_size rfl (by decide) (by decide) (Nat.le_trans (aw_i (aw_r aw_0)) (by decide)) rfl (mJ2_size C.st ex16) dX9_init_232) ?_
  obtain ⟨h18, eh18, hf⟩ := oB hf
  refine v_multi (pc := 235) (t := 105) (t' := 102) (t9 := .boolean) (v := .int 0) C (by decide +kernel) (by decide +kernel) rfl (by decide) rfl (by decide) q1257 q1258 q1321 (by decide) rfl rfl rfl eh18 dX9_init_235 ?_
  obtain ⟨h19, eh19, hf⟩ := oB hf
  refine v_putC (pc := 239) C X.2.2.2.2.2.1 lk_X9_103 rfl q1300 tyX9 tyX9_ok nmX9 (tyX9_ok 5 (by decide)) rfl ft_a eh19 dX9_init_239 ?_
  refine v_iconst (pc := 242) (v := (0 : Int32)) C dX9_init_242 rfl ?_
  refine v_istore_n (pc := 243) (lv' := [(3, false, .int (0 : Int32)), (0, false, va_rf a0), (1, false, va_rf a1)]) C dX9_init_243 rfl (by decide) rfl ?_
  exact V.sub [1, 0] rfl (vX9_init_p244 X _ _ _ _ _ hf)
def fX9_init_p133 (D : aD) : Nat → aH → (Option Nat) → (Option Nat) → (Option Nat) → Option (aH)
  | 0, _, _, _, _ => none
  | n + 1, h, a0, a1, a3 =>
  (aIs h 20 a3).bind fun _ =>
  (fJ25_hasNext D h a3).bind fun x2 =>
  if x2 = 0 then
  (fX9_init_p199 D h a0 a1)
  else
  ((aIs h 20 a3).bind fun _ =>
  bnd2 (fJ28_next D h a3) fun x5 h6 =>
  (aCast h6 [7] x5).bind fun _ =>
  (aIs h6 8 a0).bind fun _ =>
  (fX9_counts D h6 a0 x5).bind fun x9 =>
  if x9 = 0 then
  (fX9_init_p133 D n h6 a0 a1 a3)
  else
  ((gI h6 7 1 x5).bind fun x11 =>
  if x11 = 0 then
  ((gR h6 8 2 a0).bind fun x16 =>
  (aIs h6 15 x16).bind fun _ =>
  bnd2 (fJ2_add D h6 x16 x5) fun x18 h19 =>
  fX9_init_p133 D n h19 a0 a1 a3)
  else
  ((gR h6 8 3 a0).bind fun x12 =>
  (aIs h6 15 x12).bind fun _ =>
  bnd2 (fJ2_add D h6 x12 x5) fun x14 h15 =>
  fX9_init_p133 D n h15 a0 a1 a3)))
theorem vX9_init_p133 (X : aX p l R s m meth c D n0 s0 yX9_init cX9_init 11 3116 5 (none) h0) : ∀ (n : Nat) (h : aH) (a0 : Option Nat) (a1 : Option Nat) (a3 : Option Nat) (g : aH), fX9_init_p133 D n h a0 a1 a3 = some g → V p l e R s m args below meth c D n0 s0 (aEnd D below args s h0 (.inr none, g)) h 133 [(0, false, va_rf a0), (1, false, va_rf a1), (3, false, va_rf a3)] [] := by
  have C := X.1
  intro n
  induction n with
  | zero =>
    intro _ _ _ _ _ hf
    rw [fX9_init_p133] at hf
    cases hf
  | succ n ih =>
    intro h a0 a1 a3 g hf
    rw [fX9_init_p133] at hf
    refine v_aload_n (pc := 133) (j := 2) C dX9_init_133 rfl rfl ?_
    obtain ⟨b1, eb1, hf⟩ := oB hf
    obtain ⟨rb1, _, kb1⟩ := aIs_eq eb1
    obtain ⟨x2, ex2, hf⟩ := oB hf
    refine v_call (pc := 134) (d_F (pc := 134) C (As := []) (rest := []) rb1 kb1 nt_20 q1082 q1084 ⟨q1083, ⟨by decide +kernel, by decide +kernel⟩⟩ q1111 q1104 q1105 q1112 q1110 (by decide +kernel) yk_J25_hasNext rfl (by decide) (by decide) (Nat.le_trans aw_0 (by decide)) rfl (mJ25_hasNext C.st ex2) dX9_init_134) ?_
    refine v_if_eq (pc := 139) (tgt := 199) C dX9_init_139 rfl (fun hc => ?_) (fun hc => ?_)
    · rw [if_pos hc] at hf
      exact V.sub [0, 1] rfl (vX9_init_p199 X hf)
    · rw [if_neg hc] at hf
      refine v_aload_n (pc := 142) (j := 2) C dX9_init_142 rfl rfl ?_
      obtain ⟨b4, eb4, hf⟩ := oB hf
      obtain ⟨rb4, _, kb4⟩ := aIs_eq eb4
      obtain ⟨x5, h6, ex5, hf⟩ := bnd2_eq hf
      refine v_call (pc := 143) (d_F (pc := 143) C (As := []) (rest := []) rb4 kb4 nt_20 q1114 q1116 ⟨q1115, ⟨by decide +kernel, by decide +kernel⟩⟩ q1171 q1173 q1174 q1172 q1110 (by decide +kernel) yk_J28_next rfl (by decide) (by decide) (Nat.le_trans aw_0 (by decide)) rfl (mJ28_next C.st ex5) dX9_init_143) ?_
      obtain ⟨_, e7, hf⟩ := oB hf
      refine v_cast (pc := 148) C q1179 ct_FigureSurvey_Finding e7 dX9_init_148 ?_
      refine v_astore (pc := 151) (lv' := [(4, false, va_rf x5), (0, false, va_rf a0), (1, false, va_rf a1), (3, false, va_rf a3)]) C dX9_init_151 (by decide) rfl ?_
      refine v_aload_n (pc := 153) (j := 1) C dX9_init_153 rfl rfl ?_
      refine v_aload (pc := 154) (j := 0) C dX9_init_154 rfl ?_
      obtain ⟨b8, eb8, hf⟩ := oB hf
      obtain ⟨rb8, _, kb8⟩ := aIs_eq eb8
      obtain ⟨x9, ex9, hf⟩ := oB hf
      refine v_call (pc := 156) (d_V (pc := 156) C (As := [va_rf x5]) (rest := []) rb8 kb8 nt_8 q1180 yi_X9_counts_FigureSurvey_Scene yk_X9_counts rfl (by decide) (by decide) (Nat.le_trans aw_0 (by decide)) rfl (mX9_counts C.st ex9) dX9_init_156) ?_
      refine v_if_ne (pc := 159) (tgt := 165) C dX9_init_159 rfl (fun hc => ?_) (fun hc => ?_)
      · rw [if_neg hc] at hf
        refine v_aload (pc := 165) (j := 0) C dX9_init_165 rfl ?_
        obtain ⟨x11, ex11, hf⟩ := oB hf
        refine v_getF (pc := 167) C lk_X9_85 (gI_eq ex11) dX9_init_167 ?_
        refine v_if_ne (pc := 170) (tgt := 186) C dX9_init_170 rfl (fun hc => ?_) (fun hc => ?_)
        · rw [if_neg hc] at hf
          refine v_aload_n (pc := 186) (j := 1) C dX9_init_186 rfl rfl ?_
          obtain ⟨x12, ex12, hf⟩ := oB hf
          refine v_getF (pc := 187) C lk_X9_25 (gR_eq ex12) dX9_init_187 ?_
          refine v_aload (pc := 190) (j := 0) C dX9_init_190 rfl ?_
          obtain ⟨b13, eb13, hf⟩ := oB hf
          obtain ⟨rb13, _, kb13⟩ := aIs_eq eb13
          obtain ⟨x14, h15, ex14, hf⟩ := bnd2_eq hf
          refine v_call (pc := 192) (d_V (pc := 192) C (As := [va_rf x5]) (rest := []) rb13 kb13 nt_15 q874 yi_J2_add_java_util_ArrayList yk_J2_add rfl (by decide) (by decide) (Nat.le_trans aw_0 (by decide)) rfl (mJ2_add C.st ex14) dX9_init_192) ?_
          refine v_pop (pc := 195) C dX9_init_195 rfl ?_
          refine v_goto (pc := 196) (tgt := 133) C dX9_init_196 rfl ?_
          exact V.sub [1, 2, 3] rfl (ih _ _ _ _ _ hf)
        · rw [if_pos (Decidable.of_not_not hc)] at hf
          refine v_aload_n (pc := 173) (j := 1) C dX9_init_173 rfl rfl ?_
          obtain ⟨x16, ex16, hf⟩ := oB hf
          refine v_getF (pc := 174) C lk_X9_22 (gR_eq ex16) dX9_init_174 ?_
          refine v_aload (pc := 177) (j := 0) C dX9_init_177 rfl ?_
          obtain ⟨b17, eb17, hf⟩ := oB hf
          obtain ⟨rb17, _, kb17⟩ := aIs_eq eb17
          obtain ⟨x18, h19, ex18, hf⟩ := bnd2_eq hf
          refine v_call (pc := 179) (d_V (pc := 179) C (As := [va_rf x5]) (rest := []) rb17 kb17 nt_15 q874 yi_J2_add_java_util_ArrayList yk_J2_add rfl (by decide) (by decide) (Nat.le_trans aw_0 (by decide)) rfl (mJ2_add C.st ex18) dX9_init_179) ?_
          refine v_pop (pc := 182) C dX9_init_182 rfl ?_
          refine v_goto (pc := 183) (tgt := 196) C dX9_init_183 rfl ?_
          refine v_goto (pc := 196) (tgt := 133) C dX9_init_196 rfl ?_
          exact V.sub [1, 2, 3] rfl (ih _ _ _ _ _ hf)
      · rw [if_pos (Decidable.of_not_not hc)] at hf
        refine v_goto (pc := 162) (tgt := 133) C dX9_init_162 rfl ?_
        exact V.sub [1, 2, 3] rfl (ih _ _ _ _ _ hf)
def fX9_init_p120 (D : aD) (h : aH) (a0 : Option Nat) (a1 : Option Nat) : Option (aH) :=
  (gR h 0 5 a1).bind fun x1 =>
  (aIs h 16 x1).bind fun _ =>
  bnd2 (fJ4_values D h x1) fun x3 h4 =>
  (aIs h4 19 x3).bind fun _ =>
  bnd2 (fJ22_iterator D h4 x3) fun x6 h7 =>
  fX9_init_p133 D FU h7 a0 a1 x6
theorem vX9_init_p120 {h : aH} {a0 : Option Nat} {a1 : Option Nat} {g : aH} (X : aX p l R s m meth c D n0 s0 yX9_init cX9_init 11 3116 5 (none) h0) (hf : fX9_init_p120 D h a0 a1 = some g) : V p l e R s m args below meth c D n0 s0 (aEnd D below args s h0 (.inr none, g)) h 120 [(0, false, va_rf a0), (1, false, va_rf a1)] [] := by
  have C := X.1
  unfold fX9_init_p120 at hf
  refine v_aload_n (pc := 120) (j := 1) C dX9_init_120 rfl rfl ?_
  obtain ⟨x1, ex1, hf⟩ := oB hf
  refine v_getF (pc := 121) C lk_X9_54 (gR_eq ex1) dX9_init_121 ?_
  obtain ⟨b2, eb2, hf⟩ := oB hf
  obtain ⟨rb2, _, kb2⟩ := aIs_eq eb2
  obtain ⟨x3, h4, ex3, hf⟩ := bnd2_eq hf
  refine v_call (pc := 124) (d_V (pc := 124) C (As := []) (rest := []) rb2 kb2 nt_16 q894 yi_J4_values_java_util_TreeMap yk_J4_values rfl (by decide) (by decide) (Nat.le_trans aw_0 (by decide)) rfl (mJ4_values C.st ex3) dX9_init_124) ?_
  obtain ⟨b5, eb5, hf⟩ := oB hf
  obtain ⟨rb5, _, kb5⟩ := aIs_eq eb5
  obtain ⟨x6, h7, ex6, hf⟩ := bnd2_eq hf
  refine v_call (pc := 127) (d_F (pc := 127) C (As := []) (rest := []) rb5 kb5 nt_19 q909 q911 ⟨q910, ⟨by decide +kernel, by decide +kernel⟩⟩ q1028 q1030 q1031 q1029 q1027 (by decide +kernel) yk_J22_iterator rfl (by decide) (by decide) (Nat.le_trans aw_0 (by decide)) rfl (mJ22_iterator C.st ex6) dX9_init_127) ?_
  refine v_astore_n (pc := 132) (lv' := [(3, false, va_rf x6), (0, false, va_rf a0), (1, false, va_rf a1)]) C dX9_init_132 rfl (by decide) rfl ?_
  exact V.sub [1, 2, 0] rfl (vX9_init_p133 X _ _ _ _ _ _ hf)
def fX9_init_p49 (D : aD) : Nat → aH → (Option Nat) → (Option Nat) → (Option Nat) → Int32 → Option (aH)
  | 0, _, _, _, _, _ => none
  | n + 1, h, a0, a1, a2, a3 =>
  (gR h 0 3 a1).bind fun x1 =>
  (aIs h 15 x1).bind fun _ =>
  (fJ2_size D h x1).bind fun x3 =>
  if x3 ≤ a3 then
  (fX9_init_p120 D h a0 a1)
  else
  ((gR h 0 3 a1).bind fun x5 =>
  (aIs h 15 x5).bind fun _ =>
  (fJ2_get D h x5 a3).bind fun x7 =>
  (aCast h [4] x7).bind fun _ =>
  (gR h 4 1 x7).bind fun x10 =>
  if x10 = a2 then
  ((gR h 0 3 a1).bind fun x11 =>
  (aIs h 15 x11).bind fun _ =>
  (fJ2_get D h x11 a3).bind fun x13 =>
  (aCast h [4] x13).bind fun _ =>
  (aIs h 4 x13).bind fun _ =>
  bnd2 (fX5_isGenuine D h x13) fun x17 h18 =>
  if x17 = 0 then
  (fX9_init_p114 D (fX9_init_p49 D n) h18 a0 a1 a2 a3)
  else
  ((gR h18 8 1 a0).bind fun x19 =>
  (gR h18 0 3 a1).bind fun x20 =>
  (aIs h18 15 x20).bind fun _ =>
  (fJ2_get D h18 x20 a3).bind fun x22 =>
  (aCast h18 [4] x22).bind fun _ =>
  (aIs h18 15 x19).bind fun _ =>
  bnd2 (fJ2_add D h18 x19 x22) fun x26 h27 =>
  fX9_init_p114 D (fX9_init_p49 D n) h27 a0 a1 a2 a3))
  else
  (fX9_init_p114 D (fX9_init_p49 D n) h a0 a1 a2 a3))
theorem vX9_init_p49 (X : aX p l R s m meth c D n0 s0 yX9_init cX9_init 11 3116 5 (none) h0) : ∀ (n : Nat) (h : aH) (a0 : Option Nat) (a1 : Option Nat) (a2 : Option Nat) (a3 : Int32) (g : aH), fX9_init_p49 D n h a0 a1 a2 a3 = some g → V p l e R s m args below meth c D n0 s0 (aEnd D below args s h0 (.inr none, g)) h 49 [(0, false, va_rf a0), (1, false, va_rf a1), (2, false, va_rf a2), (3, false, .int a3)] [] := by
  have C := X.1
  intro n
  induction n with
  | zero =>
    intro _ _ _ _ _ _ hf
    rw [fX9_init_p49] at hf
    cases hf
  | succ n ih =>
    intro h a0 a1 a2 a3 g hf
    rw [fX9_init_p49] at hf
    refine v_iload_n (pc := 49) (j := 3) C dX9_init_49 rfl rfl ?_
    refine v_aload_n (pc := 50) (j := 1) C dX9_init_50 rfl rfl ?_
    obtain ⟨x1, ex1, hf⟩ := oB hf
    refine v_getF (pc := 51) C lk_X9_32 (gR_eq ex1) dX9_init_51 ?_
    obtain ⟨b2, eb2, hf⟩ := oB hf
    obtain ⟨rb2, _, kb2⟩ := aIs_eq eb2
    obtain ⟨x3, ex3, hf⟩ := oB hf
    refine v_call (pc := 54) (d_V (pc := 54) C (As := []) (rest := [.int a3]) rb2 kb2 nt_15 q870 yi_J2_size_java_util_ArrayList yk_J2_size rfl (by decide) (by decide) (Nat.le_trans (aw_i aw_0) (by decide)) rfl (mJ2_size C.st ex3) dX9_init_54) ?_
    refine v_icmp_ge (pc := 57) (tgt := 120) C dX9_init_57 rfl (fun hc => ?_) (fun hc => ?_)
    · rw [if_pos hc] at hf
      exact V.sub [0, 1] rfl (vX9_init_p120 X hf)
    · rw [if_neg hc] at hf
      refine v_aload_n (pc := 60) (j := 1) C dX9_init_60 rfl rfl ?_
      obtain ⟨x5, ex5, hf⟩ := oB hf
      refine v_getF (pc := 61) C lk_X9_32 (gR_eq ex5) dX9_init_61 ?_
      refine v_iload_n (pc := 64) (j := 3) C dX9_init_64 rfl rfl ?_
      obtain ⟨b6, eb6, hf⟩ := oB hf
      obtain ⟨rb6, _, kb6⟩ := aIs_eq eb6
      obtain ⟨x7, ex7, hf⟩ := oB hf
      refine v_call (pc := 65) (d_V (pc := 65) C (As := [.int a3]) (rest := []) rb6 kb6 nt_15 q871 yi_J2_get_java_util_ArrayList yk_J2_get rfl (by decide) (by decide) (Nat.le_trans aw_0 (by decide)) rfl (mJ2_get C.st ex7) dX9_init_65) ?_
      obtain ⟨_, e9, hf⟩ := oB hf
      refine v_cast (pc := 68) C q872 ct_FigureSurvey_Figure e9 dX9_init_68 ?_
      obtain ⟨x10, ex10, hf⟩ := oB hf
      refine v_getF (pc := 71) C lk_X9_45 (gR_eq ex10) dX9_init_71 ?_
      refine v_aload_n (pc := 74) (j := 2) C dX9_init_74 rfl rfl ?_
      refine v_acmp_ne (pc := 75) (tgt := 114) C dX9_init_75 rfl (fun hc => ?_) (fun hc => ?_)
      · rw [if_neg hc] at hf
        exact V.sub [0, 1, 2, 3] rfl (vX9_init_p114 X ih hf)
      · rw [if_pos (Decidable.of_not_not hc)] at hf
        refine v_aload_n (pc := 78) (j := 1) C dX9_init_78 rfl rfl ?_
        obtain ⟨x11, ex11, hf⟩ := oB hf
        refine v_getF (pc := 79) C lk_X9_32 (gR_eq ex11) dX9_init_79 ?_
        refine v_iload_n (pc := 82) (j := 3) C dX9_init_82 rfl rfl ?_
        obtain ⟨b12, eb12, hf⟩ := oB hf
        obtain ⟨rb12, _, kb12⟩ := aIs_eq eb12
        obtain ⟨x13, ex13, hf⟩ := oB hf
        refine v_call (pc := 83) (d_V (pc := 83) C (As := [.int a3]) (rest := []) rb12 kb12 nt_15 q871 yi_J2_get_java_util_ArrayList yk_J2_get rfl (by decide) (by decide) (Nat.le_trans aw_0 (by decide)) rfl (mJ2_get C.st ex13) dX9_init_83) ?_
        obtain ⟨_, e15, hf⟩ := oB hf
        refine v_cast (pc := 86) C q872 ct_FigureSurvey_Figure e15 dX9_init_86 ?_
        obtain ⟨b16, eb16, hf⟩ := oB hf
        obtain ⟨rb16, _, kb16⟩ := aIs_eq eb16
        obtain ⟨x17, h18, ex17, hf⟩ := bnd2_eq hf
        refine v_call (pc := 89) (d_V (pc := 89) C (As := []) (rest := []) rb16 kb16 nt_4 q873 yi_X5_isGenuine_FigureSurvey_Figure yk_X5_isGenuine rfl (by decide) (by decide) (Nat.le_trans aw_0 (by decide)) rfl (mX5_isGenuine C.st ex17) dX9_init_89) ?_
        refine v_if_eq (pc := 92) (tgt := 114) C dX9_init_92 rfl (fun hc => ?_) (fun hc => ?_)
        · rw [if_pos hc] at hf
          exact V.sub [0, 1, 2, 3] rfl (vX9_init_p114 X ih hf)
        · rw [if_neg hc] at hf
          refine v_aload_n (pc := 95) (j := 0) C dX9_init_95 rfl rfl ?_
          obtain ⟨x19, ex19, hf⟩ := oB hf
          refine v_getF (pc := 96) C lk_X9_18 (gR_eq ex19) dX9_init_96 ?_
          refine v_aload_n (pc := 99) (j := 1) C dX9_init_99 rfl rfl ?_
          obtain ⟨x20, ex20, hf⟩ := oB hf
          refine v_getF (pc := 100) C lk_X9_32 (gR_eq ex20) dX9_init_100 ?_
          refine v_iload_n (pc := 103) (j := 3) C dX9_init_103 rfl rfl ?_
          obtain ⟨b21, eb21, hf⟩ := oB hf
          obtain ⟨rb21, _, kb21⟩ := aIs_eq eb21
          obtain ⟨x22, ex22, hf⟩ := oB hf
          refine v_call (pc := 104) (d_V (pc := 104) C (As := [.int a3]) (rest := [va_rf x19]) rb21 kb21 nt_15 q871 yi_J2_get_java_util_ArrayList yk_J2_get rfl (by decide) (by decide) (Nat.le_trans (aw_r aw_0) (by decide)) rfl (mJ2_get C.st ex22) dX9_init_104) ?_
          obtain ⟨_, e24, hf⟩ := oB hf
          refine v_cast (pc := 107) C q872 ct_FigureSurvey_Figure e24 dX9_init_107 ?_
          obtain ⟨b25, eb25, hf⟩ := oB hf
          obtain ⟨rb25, _, kb25⟩ := aIs_eq eb25
          obtain ⟨x26, h27, ex26, hf⟩ := bnd2_eq hf
          refine v_call (pc := 110) (d_V (pc := 110) C (As := [va_rf x22]) (rest := []) rb25 kb25 nt_15 q874 yi_J2_add_java_util_ArrayList yk_J2_add rfl (by decide) (by decide) (Nat.le_trans aw_0 (by decide)) rfl (mJ2_add C.st ex26) dX9_init_110) ?_
          refine v_pop (pc := 113) C dX9_init_113 rfl ?_
          exact V.sub [0, 1, 2, 3] rfl (vX9_init_p114 X ih hf)
def fX9_init (D : aD) (h : aH) (a0 : Option Nat) (a1 : Option Nat) (a2 : Option Nat) : Option (aH) :=
  (pF D h 8 7 a0 (va_rf a1)).bind fun h1 =>
  (a0).bind fun _ =>
  (aMk D h1 (15, dfJ2)).bind fun h3 =>
  (fJ2_init D h3 (some h1.1)).bind fun h6 =>
  (pF D h6 8 1 a0 (va_rf (some h1.1))).bind fun h7 =>
  (aMk D h7 (15, dfJ2)).bind fun h8 =>
  (fJ2_init D h8 (some h7.1)).bind fun h11 =>
  (pF D h11 8 2 a0 (va_rf (some h7.1))).bind fun h12 =>
  (aMk D h12 (15, dfJ2)).bind fun h13 =>
  (fJ2_init D h13 (some h12.1)).bind fun h16 =>
  (pF D h16 8 3 a0 (va_rf (some h12.1))).bind fun h17 =>
  (pF D h17 8 0 a0 (va_rf a2)).bind fun h18 =>
  fX9_init_p49 D FU h18 a0 a1 a2 (0 : Int32)
theorem vX9_init {h : aH} {a0 : Option Nat} {a1 : Option Nat} {a2 : Option Nat} {g : aH} (X : aX p l R s m meth c D n0 s0 yX9_init cX9_init 11 3116 5 (none) h0) (hf : fX9_init D h a0 a1 a2 = some g) : V p l e R s m args below meth c D n0 s0 (aEnd D below args s h0 (.inr none, g)) h 0 [(0, false, va_rf a0), (1, false, va_rf a1), (2, false, va_rf a2)] [] := by
  have C := X.1
  unfold fX9_init at hf
  refine v_aload_n (pc := 0) (j := 0) C dX9_init_0 rfl rfl ?_
  refine v_aload_n (pc := 1) (j := 1) C dX9_init_1 rfl rfl ?_
  obtain ⟨h1, eh1, hf⟩ := oB hf
  refine v_putC (pc := 2) C X.2.2.2.2.2.1 lk_X9_3 rfl q1303 tyX9 tyX9_ok nmX9 (tyX9_ok 7 (by decide)) rfl ft_o eh1 dX9_init_2 ?_
  refine v_aload_n (pc := 5) (j := 0) C dX9_init_5 rfl rfl ?_
  obtain ⟨_, e2, hf⟩ := oB hf
  refine v_objInit (pc := 6) C e2 q867 q138 q139 (by decide) (Nat.le_trans (Nat.add_le_add_right aw_0 12) (by decide)) dX9_init_6 ?_
  refine v_aload_n (pc := 9) (j := 0) C dX9_init_9 rfl rfl ?_
  obtain ⟨h3, eh3, hf⟩ := oB hf
  refine v_new (pc := 10) (t := 15) (fs := dfJ2) (T := TJ2) (N := 3) C rfl in_J2 tyJ2 tyJ2_ok q868 q141 q77 dfJ2_ok rfl eh3 dX9_init_10 ?_
  refine v_dup (pc := 13) C dX9_init_13 (va_rfc _) ?_
  obtain ⟨h6, ex5, hf⟩ := oB hf
  refine v_callU (pc := 14) (d_I (pc := 14) C (As := []) (rest := [va_rf (some h1.1), va_rf a0]) rfl rfl rfl q869 q143 yk_J2_init rfl (by decide) (by decide) (Nat.le_trans (aw_r (aw_r aw_0)) (by decide)) rfl (mJ2_init C.st ex5) dX9_init_14) ?_
  obtain ⟨h7, eh7, hf⟩ := oB hf
  refine v_putC (pc := 17) C X.2.2.2.2.2.1 lk_X9_18 rfl q1294 tyX9 tyX9_ok nmX9 (tyX9_ok 1 (by decide)) rfl ft_o eh7 dX9_init_17 ?_
  refine v_aload_n (pc := 20) (j := 0) C dX9_init_20 rfl rfl ?_
  obtain ⟨h8, eh8, hf⟩ := oB hf
  refine v_new (pc := 21) (t := 15) (fs := dfJ2) (T := TJ2) (N := 3) C rfl in_J2 tyJ2 tyJ2_ok q868 q141 q77 dfJ2_ok rfl eh8 dX9_init_21 ?_
  refine v_dup (pc := 24) C dX9_init_24 (va_rfc _) ?_
  obtain ⟨h11, ex10, hf⟩ := oB hf
  refine v_callU (pc := 25) (d_I (pc := 25) C (As := []) (rest := [va_rf (some h7.1), va_rf a0]) rfl rfl rfl q869 q143 yk_J2_init rfl (by decide) (by decide) (Nat.le_trans (aw_r (aw_r aw_0)) (by decide)) rfl (mJ2_init C.st ex10) dX9_init_25) ?_
  obtain ⟨h12, eh12, hf⟩ := oB hf
  refine v_putC (pc := 28) C X.2.2.2.2.2.1 lk_X9_22 rfl q1296 tyX9 tyX9_ok nmX9 (tyX9_ok 2 (by decide)) rfl ft_o eh12 dX9_init_28 ?_
  refine v_aload_n (pc := 31) (j := 0) C dX9_init_31 rfl rfl ?_
  obtain ⟨h13, eh13, hf⟩ := oB hf
  refine v_new (pc := 32) (t := 15) (fs := dfJ2) (T := TJ2) (N := 3) C rfl in_J2 tyJ2 tyJ2_ok q868 q141 q77 dfJ2_ok rfl eh13 dX9_init_32 ?_
  refine v_dup (pc := 35) C dX9_init_35 (va_rfc _) ?_
  obtain ⟨h16, ex15, hf⟩ := oB hf
  refine v_callU (pc := 36) (d_I (pc := 36) C (As := []) (rest := [va_rf (some h12.1), va_rf a0]) rfl rfl rfl q869 q143 yk_J2_init rfl (by decide) (by decide) (Nat.le_trans (aw_r (aw_r aw_0)) (by decide)) rfl (mJ2_init C.st ex15) dX9_init_36) ?_
  obtain ⟨h17, eh17, hf⟩ := oB hf
  refine v_putC (pc := 39) C X.2.2.2.2.2.1 lk_X9_25 rfl q1297 tyX9 tyX9_ok nmX9 (tyX9_ok 3 (by decide)) rfl ft_o eh17 dX9_init_39 ?_
  refine v_aload_n (pc := 42) (j := 0) C dX9_init_42 rfl rfl ?_
  refine v_aload_n (pc := 43) (j := 2) C dX9_init_43 rfl rfl ?_
  obtain ⟨h18, eh18, hf⟩ := oB hf
  refine v_putC (pc := 44) C X.2.2.2.2.2.1 lk_X9_28 rfl q1293 tyX9 tyX9_ok nmX9 (tyX9_ok 0 (by decide)) rfl ft_o eh18 dX9_init_44 ?_
  refine v_iconst (pc := 47) (v := (0 : Int32)) C dX9_init_47 rfl ?_
  refine v_istore_n (pc := 48) (lv' := [(3, false, .int (0 : Int32)), (0, false, va_rf a0), (1, false, va_rf a1), (2, false, va_rf a2)]) C dX9_init_48 rfl (by decide) rfl ?_
  exact V.sub [1, 2, 3, 0] rfl (vX9_init_p49 X _ _ _ _ _ _ _ hf)
theorem mX9_init {l : Launch} {D : aD} {h : aH} {a0 : Option Nat} {a1 : Option Nat} {a2 : Option Nat} {g : aH} (hst : l.stackTraces = false) (hf : fX9_init D h a0 a1 a2 = some g) : aM l D yX9_init cX9_init 5 (none) 11 3116 [va_rf a0, va_rf a1, va_rf a2] h (.inr none, g) :=
  aM.ofX [(false, va_rf a0), (false, va_rf a1), (false, va_rf a2)] rfl (ap_r (ap_r (ap_r ap_0))) (by decide +kernel) hst (al_of (aw_r (aw_r (aw_r aw_0))) (by decide)) fun p e s m args below meth c X => V.sub (lv' := [(0, false, va_rf a0), (1, false, va_rf a1), (2, false, va_rf a2)]) [0, 1, 2] rfl (vX9_init X hf)
def fX1_lambda_errors_4 (D : aD) (h : aH) (a0 : Option Nat) (a1 : Int32) : Option (Int32 × aH) :=
  (aMk D h (8, dfX9)).bind fun h1 =>
  (gR h1 0 1 a0).bind fun x2 =>
  (aIs h1 15 x2).bind fun _ =>
  (fJ2_get D h1 x2 a1).bind fun x4 =>
  (aCast h1 [2] x4).bind fun _ =>
  (fX9_init D h1 (some h.1) a0 x4).bind fun h9 =>
  (aIs h9 8 (some h.1)).bind fun _ =>
  bnd2 (fX9_isOther D h9 (some h.1)) fun x11 h12 =>
  (ckZ x11).bind fun _ =>
  some (x11, h12)
theorem vX1_lambda_errors_4 {h : aH} {a0 : Option Nat} {a1 : Int32} {q : Int32} {g : aH} (X : aX p l R s m meth c D n0 s0 yX1_lambda_errors_4 cX1_lambda_errors_4 16 3140 2 (some .boolean) h0) (hf : fX1_lambda_errors_4 D h a0 a1 = some (q, g)) : V p l e R s m args below meth c D n0 s0 (aEnd D below args s h0 (.inr (some (.int q)), g)) h 0 [(0, false, va_rf a0), (1, false, .int a1)] [] := by
  have C := X.1
  unfold fX1_lambda_errors_4 at hf
  obtain ⟨h1, eh1, hf⟩ := oB hf
  refine v_new (pc := 0) (t := 8) (fs := dfX9) (T := TX9) (N := 8) C rfl in_X9 tyX9 tyX9_ok q862 q863 q120 dfX9_ok rfl eh1 dX1_lambda_errors_4_0 ?_
  refine v_dup (pc := 3) C dX1_lambda_errors_4_3 (va_rfc _) ?_
  refine v_aload_n (pc := 4) (j := 0) C dX1_lambda_errors_4_4 rfl rfl ?_
  refine v_aload_n (pc := 5) (j := 0) C dX1_lambda_errors_4_5 rfl rfl ?_
  obtain ⟨x2, ex2, hf⟩ := oB hf
  refine v_getF (pc := 6) C lk_X1_49 (gR_eq ex2) dX1_lambda_errors_4_6 ?_
  refine v_iload_n (pc := 9) (j := 1) C dX1_lambda_errors_4_9 rfl rfl ?_
  obtain ⟨b3, eb3, hf⟩ := oB hf
  obtain ⟨rb3, _, kb3⟩ := aIs_eq eb3
  obtain ⟨x4, ex4, hf⟩ := oB hf
  refine v_call (pc := 10) (d_V (pc := 10) C (As := [.int a1]) (rest := [va_rf a0, va_rf (some h.1), va_rf (some h.1)]) rb3 kb3 nt_15 q379 yi_J2_get_java_util_ArrayList yk_J2_get rfl (by decide) (by decide) (Nat.le_trans (aw_r (aw_r (aw_r aw_0))) (by decide)) rfl (mJ2_get C.st ex4) dX1_lambda_errors_4_10) ?_
  obtain ⟨_, e6, hf⟩ := oB hf
  refine v_cast (pc := 13) C q393 ct_FigureSurvey_Panel e6 dX1_lambda_errors_4_13 ?_
  obtain ⟨h9, ex8, hf⟩ := oB hf
  refine v_callU (pc := 16) (d_I (pc := 16) C (As := [va_rf a0, va_rf x4]) (rest := [va_rf (some h.1)]) rfl rfl rfl q864 q865 yk_X9_init rfl (by decide) (by decide) (Nat.le_trans (aw_r aw_0) (by decide)) rfl (mX9_init C.st ex8) dX1_lambda_errors_4_16) ?_
  obtain ⟨b10, eb10, hf⟩ := oB hf
  obtain ⟨rb10, _, kb10⟩ := aIs_eq eb10
  obtain ⟨x11, h12, ex11, hf⟩ := bnd2_eq hf
  refine v_call (pc := 19) (d_V (pc := 19) C (As := []) (rest := []) rb10 kb10 nt_8 q1322 yi_X9_isOther_FigureSurvey_Scene yk_X9_isOther rfl (by decide) (by decide) (Nat.le_trans aw_0 (by decide)) rfl (mX9_isOther C.st ex11) dX1_lambda_errors_4_19) ?_
  obtain ⟨_, e13, hf⟩ := oB hf
  cases hf
  exact v_zreturn (pc := 22) C X.2.1 X.2.2.1 X.2.2.2.1 (ckZ_eq e13) rfl dX1_lambda_errors_4_22
theorem mX1_lambda_errors_4 {l : Launch} {D : aD} {h : aH} {a0 : Option Nat} {a1 : Int32} {q : Int32} {g : aH} (hst : l.stackTraces = false) (hf : fX1_lambda_errors_4 D h a0 a1 = some (q, g)) : aM l D yX1_lambda_errors_4 cX1_lambda_errors_4 2 (some .boolean) 16 3140 [va_rf a0, .int a1] h (.inr (some (.int q)), g) :=
  aM.ofX [(false, va_rf a0), (false, .int a1)] rfl (ap_r (ap_c rfl ap_0)) (by decide +kernel) hst (al_of (aw_r (aw_i aw_0)) (by decide)) fun p e s m args below meth c X => V.sub (lv' := [(0, false, va_rf a0), (1, false, .int a1)]) [0, 1] rfl (vX1_lambda_errors_4 X hf)
def fX1_count_L2_p22 (D : aD) (K4 : aH → Int32 → (Option Nat) → Int32 → Int32 → Option (Int32 × aH)) (h : aH) (a0 : Int32) (a1 : Option Nat) (a2 : Int32) (a3 : Int32) : Option (Int32 × aH) :=
  K4 h a0 a1 a2 (a3 + 1)
theorem vX1_count_L2_p22 {h : aH} {K4 : aH → Int32 → (Option Nat) → Int32 → Int32 → Option (Int32 × aH)} {a0 : Int32} {a1 : Option Nat} {a2 : Int32} {a3 : Int32} {q : Int32} {g : aH} (X : aX p l R s m meth c D n0 s0 yX1_count cX1_count 18 3182 4 (some .int) h0) (k4 : ∀ (h : aH) (a0 : Int32) (a1 : Option Nat) (a2 : Int32) (a3 : Int32) (q : Int32) (g : aH), K4 h a0 a1 a2 a3 = some (q, g) → V p l e R s m args below meth c D n0 s0 (aEnd D below args s h0 (.inr (some (.int q)), g)) h 4 [(0, false, .int a0), (1, false, va_rf a1), (2, false, .int a2), (3, false, .int a3)] []) (hf : fX1_count_L2_p22 D K4 h a0 a1 a2 a3 = some (q, g)) : V p l e R s m args below meth c D n0 s0 (aEnd D below args s h0 (.inr (some (.int q)), g)) h 22 [(0, false, .int a0), (1, false, va_rf a1), (2, false, .int a2), (3, false, .int a3)] [] := by
  have C := X.1
  unfold fX1_count_L2_p22 at hf
  refine v_iinc (pc := 22) (j := 3) (v := (a3 + 1)) (lv' := [(3, false, .int (a3 + 1)), (0, false, .int a0), (1, false, va_rf a1), (2, false, .int a2)]) C dX1_count_22 rfl rfl (by decide) rfl ?_
  refine v_goto (pc := 25) (tgt := 4) C dX1_count_25 rfl ?_
  exact V.sub [1, 2, 3, 0] rfl (k4 _ _ _ _ _ _ _ hf)
def fX1_count_L2_p4 (D : aD) : Nat → aH → Int32 → (Option Nat) → Int32 → Int32 → Option (Int32 × aH)
  | 0, _, _, _, _, _ => none
  | n + 1, h, a0, a1, a2, a3 =>
  if a0 ≤ a3 then
  (some (a2, h))
  else
  (((aLam h 112 a1).bind lmA).bind fun c2 =>
  (aIs h 0 c2).bind fun _ =>
  bnd2 (fX1_lambda_errors_4 D h c2 a3) fun x3 h4 =>
  (ckZ x3).bind fun _ =>
  fX1_count_L2_p22 D (fX1_count_L2_p4 D n) h4 a0 a1 (if x3 = 0 then a2 else (a2 + 1)) a3)
theorem vX1_count_L2_p4 (X : aX p l R s m meth c D n0 s0 yX1_count cX1_count 18 3182 4 (some .int) h0) : ∀ (n : Nat) (h : aH) (a0 : Int32) (a1 : Option Nat) (a2 : Int32) (a3 : Int32) (q : Int32) (g : aH), fX1_count_L2_p4 D n h a0 a1 a2 a3 = some (q, g) → V p l e R s m args below meth c D n0 s0 (aEnd D below args s h0 (.inr (some (.int q)), g)) h 4 [(0, false, .int a0), (1, false, va_rf a1), (2, false, .int a2), (3, false, .int a3)] [] := by
  have C := X.1
  intro n
  induction n with
  | zero =>
    intro _ _ _ _ _ _ _ hf
    rw [fX1_count_L2_p4] at hf
    cases hf
  | succ n ih =>
    intro h a0 a1 a2 a3 q g hf
    rw [fX1_count_L2_p4] at hf
    refine v_iload_n (pc := 4) (j := 3) C dX1_count_4 rfl rfl ?_
    refine v_iload_n (pc := 5) (j := 0) C dX1_count_5 rfl rfl ?_
    refine v_icmp_ge (pc := 6) (tgt := 28) C dX1_count_6 rfl (fun hc => ?_) (fun hc => ?_)
    · rw [if_pos hc] at hf
      refine v_iload_n (pc := 28) (j := 2) C dX1_count_28 rfl rfl ?_
      cases hf
      exact v_ireturn (pc := 29) C X.2.1 X.2.2.1 X.2.2.2.1 rfl dX1_count_29
    · rw [if_neg hc] at hf
      refine v_aload_n (pc := 9) (j := 1) C dX1_count_9 rfl rfl ?_
      refine v_iload_n (pc := 10) (j := 3) C dX1_count_10 rfl rfl ?_
      obtain ⟨c2, eb1, hf⟩ := oB hf
      obtain ⟨b1, rb1, kb1⟩ := lmA_eq eb1
      obtain ⟨db1, fb1, hf⟩ := oB hf
      obtain ⟨rfl, _, gb1⟩ := aIs_eq fb1
      obtain ⟨x3, h4, ex3, hf⟩ := bnd2_eq hf
      obtain ⟨_, zx3, hf⟩ := oB hf
      refine v_call (pc := 11) (d_L (pc := 11) C (k := 2) (xs := [a3]) (As := [.int a3]) (rest := []) lkS_2 lok_2 (by decide +kernel) ⟨rfl, rfl, by decide +kernel⟩ q598 q600 ⟨q599, ⟨by decide +kernel, by decide +kernel⟩⟩ (show (parseMethodDescriptor "(I)Z").map (fun d => d.parameters.length) = some 1 by decide +kernel) rb1 kb1 rfl rfl (hWalkV lDec_2 (show 1 ≤ 3 by decide) (by decide) kb1 rfl gb1 nt_0 yi_X1_lambda_errors_4_FigureSurvey yk_X1_lambda_errors_4 rfl (mX1_lambda_errors_4 C.st ex3) (Or.inr ⟨rfl, ckZ_eq zx3⟩)) (by decide) (by decide) (Nat.le_trans aw_0 (by decide)) rfl dX1_count_11) ?_
      refine v_if_eq (pc := 16) (tgt := 22) C dX1_count_16 rfl (fun hc => ?_) (fun hc => ?_)
      · simp only [if_pos hc] at hf
        exact V.sub [0, 1, 2, 3] rfl (vX1_count_L2_p22 X ih hf)
      · simp only [if_neg hc] at hf
        refine v_iinc (pc := 19) (j := 2) (v := (a2 + 1)) (lv' := [(2, false, .int (a2 + 1)), (0, false, .int a0), (1, false, va_rf a1), (3, false, .int a3)]) C dX1_count_19 rfl rfl (by decide) rfl ?_
        exact V.sub [1, 2, 0, 3] rfl (vX1_count_L2_p22 X ih hf)
def fX1_count_L2 (D : aD) (h : aH) (a0 : Int32) (a1 : Option Nat) : Option (Int32 × aH) :=
  fX1_count_L2_p4 D FU h a0 a1 (0 : Int32) (0 : Int32)
theorem vX1_count_L2 {h : aH} {a0 : Int32} {a1 : Option Nat} {q : Int32} {g : aH} (X : aX p l R s m meth c D n0 s0 yX1_count cX1_count 18 3182 4 (some .int) h0) (hf : fX1_count_L2 D h a0 a1 = some (q, g)) : V p l e R s m args below meth c D n0 s0 (aEnd D below args s h0 (.inr (some (.int q)), g)) h 0 [(0, false, .int a0), (1, false, va_rf a1)] [] := by
  have C := X.1
  unfold fX1_count_L2 at hf
  refine v_iconst (pc := 0) (v := (0 : Int32)) C dX1_count_0 rfl ?_
  refine v_istore_n (pc := 1) (lv' := [(2, false, .int (0 : Int32)), (0, false, .int a0), (1, false, va_rf a1)]) C dX1_count_1 rfl (by decide) rfl ?_
  refine v_iconst (pc := 2) (v := (0 : Int32)) C dX1_count_2 rfl ?_
  refine v_istore_n (pc := 3) (lv' := [(3, false, .int (0 : Int32)), (2, false, .int (0 : Int32)), (0, false, .int a0), (1, false, va_rf a1)]) C dX1_count_3 rfl (by decide) rfl ?_
  exact V.sub [2, 3, 1, 0] rfl (vX1_count_L2_p4 X _ _ _ _ _ _ _ _ hf)
theorem mX1_count_L2 {l : Launch} {D : aD} {h : aH} {a0 : Int32} {a1 : Option Nat} {q : Int32} {g : aH} (hst : l.stackTraces = false) (hf : fX1_count_L2 D h a0 a1 = some (q, g)) : aM l D yX1_count cX1_count 4 (some .int) 18 3182 [.int a0, va_rf a1] h (.inr (some (.int q)), g) :=
  aM.ofX [(false, .int a0), (false, va_rf a1)] rfl (ap_c rfl (ap_r ap_0)) (by decide +kernel) hst (al_of (aw_i (aw_r aw_0)) (by decide)) fun p e s m args below meth c X => V.sub (lv' := [(0, false, .int a0), (1, false, va_rf a1)]) [0, 1] rfl (vX1_count_L2 X hf)
def fX1_errors (D : aD) (h : aH) (a0 : Option Nat) : Option (Int32 × aH) :=
  (gR h 0 1 a0).bind fun x1 =>
  (aIs h 15 x1).bind fun _ =>
  (fJ2_size D h x1).bind fun x3 =>
  (aMk D h (112, [va_rf a0])).bind fun h5 =>
  bnd2 (fX1_count_L2 D h5 x3 (some h.1)) fun x7 h8 =>
  some (x7, h8)
theorem vX1_errors {h : aH} {a0 : Option Nat} {q : Int32} {g : aH} (X : aX p l R s m meth c D n0 s0 yX1_errors cX1_errors 19 3205 1 (some .int) h0) (hf : fX1_errors D h a0 = some (q, g)) : V p l e R s m args below meth c D n0 s0 (aEnd D below args s h0 (.inr (some (.int q)), g)) h 0 [(0, false, va_rf a0)] [] := by
  have C := X.1
  unfold fX1_errors at hf
  refine v_aload_n (pc := 0) (j := 0) C dX1_errors_0 rfl rfl ?_
  obtain ⟨x1, ex1, hf⟩ := oB hf
  refine v_getF (pc := 1) C lk_X1_49 (gR_eq ex1) dX1_errors_1 ?_
  obtain ⟨b2, eb2, hf⟩ := oB hf
  obtain ⟨rb2, _, kb2⟩ := aIs_eq eb2
  obtain ⟨x3, ex3, hf⟩ := oB hf
  refine v_call (pc := 4) (d_V (pc := 4) C (As := []) (rest := []) rb2 kb2 nt_15 q375 yi_J2_size_java_util_ArrayList yk_J2_size rfl (by decide) (by decide) (Nat.le_trans aw_0 (by decide)) rfl (mJ2_size C.st ex3) dX1_errors_4) ?_
  refine v_aload_n (pc := 7) (j := 0) C dX1_errors_7 rfl rfl ?_
  obtain ⟨h5, eh5, hf⟩ := oB hf
  refine v_lam (pc := 8) (k := 2) (vals := [va_rf a0]) (rest := [.int x3]) C X.2.2.2.2.2.2 lkS_2 lok_2 rfl (lvl_c rfl ft_o lvl_0) rfl eh5 (Nat.le_trans (Nat.add_le_add_right (aw_r (aw_i aw_0)) _) (by decide)) dX1_errors_8 ?_
  obtain ⟨x7, h8, ex7, hf⟩ := bnd2_eq hf
  refine v_call (pc := 13) (d_S (pc := 13) C (As := [.int x3, va_rf (some h.1)]) (rest := []) q601 q595 yk_X1_count rfl (by decide) (by decide) (Nat.le_trans aw_0 (by decide)) rfl (mX1_count_L2 C.st ex7) dX1_errors_13) ?_
  cases hf
  exact v_ireturn (pc := 16) C X.2.1 X.2.2.1 X.2.2.2.1 rfl dX1_errors_16
theorem mX1_errors {l : Launch} {D : aD} {h : aH} {a0 : Option Nat} {q : Int32} {g : aH} (hst : l.stackTraces = false) (hf : fX1_errors D h a0 = some (q, g)) : aM l D yX1_errors cX1_errors 1 (some .int) 19 3205 [va_rf a0] h (.inr (some (.int q)), g) :=
  aM.ofX [(false, va_rf a0)] rfl (ap_r ap_0) (by decide +kernel) hst (al_of (aw_r aw_0) (by decide)) fun p e s m args below meth c X => V.sub (lv' := [(0, false, va_rf a0)]) [0] rfl (vX1_errors X hf)
def fJ4_compare (D : aD) (h : aH) (a0 : Option Nat) (a1 : Option Nat) (a2 : Option Nat) : Option (Int32 × aH) :=
  (gR h 16 2 a0).bind fun x1 =>
  if x1 = none then
  ((aCast h [6, 10, 22] a1).bind fun _ =>
  (fd_Comparable_compareTo_22_10 D h a1 a2).bind fun x8 =>
  some (x8, h))
  else
  ((gR h 16 2 a0).bind fun x2 =>
  (aIs h 14 x2).bind fun _ =>
  bnd2 (fX15_compare D h x2 a1 a2) fun x4 h5 =>
  some (x4, h5))
theorem vJ4_compare {h : aH} {a0 : Option Nat} {a1 : Option Nat} {a2 : Option Nat} {q : Int32} {g : aH} (X : aX p l R s m meth c D n0 s0 yJ4_compare cJ4_compare 17 3248 3 (some .int) h0) (hf : fJ4_compare D h a0 a1 a2 = some (q, g)) : V p l e R s m args below meth c D n0 s0 (aEnd D below args s h0 (.inr (some (.int q)), g)) h 0 [(0, false, va_rf a0), (1, false, va_rf a1), (2, false, va_rf a2)] [] := by
  have C := X.1
  unfold fJ4_compare at hf
  refine v_aload_n (pc := 0) (j := 0) C dJ4_compare_0 rfl rfl ?_
  obtain ⟨x1, ex1, hf⟩ := oB hf
  refine v_getF (pc := 1) C lk_J4_16 (gR_eq ex1) dJ4_compare_1 ?_
  refine v_ifnonnull (pc := 4) (tgt := 20) C dJ4_compare_4 rfl (fun hc => ?_) (fun hc => ?_)
  · rw [if_neg hc] at hf
    refine v_aload_n (pc := 20) (j := 0) C dJ4_compare_20 rfl rfl ?_
    obtain ⟨x2, ex2, hf⟩ := oB hf
    refine v_getF (pc := 21) C lk_J4_16 (gR_eq ex2) dJ4_compare_21 ?_
    refine v_aload_n (pc := 24) (j := 1) C dJ4_compare_24 rfl rfl ?_
    refine v_aload_n (pc := 25) (j := 2) C dJ4_compare_25 rfl rfl ?_
    obtain ⟨b3, eb3, hf⟩ := oB hf
    obtain ⟨rb3, _, kb3⟩ := aIs_eq eb3
    obtain ⟨x4, h5, ex4, hf⟩ := bnd2_eq hf
    refine v_call (pc := 26) (d_F (pc := 26) C (As := [va_rf a1, va_rf a2]) (rest := []) rb3 kb3 nt_14 q1421 q492 ⟨q491, ⟨by decide +kernel, by decide +kernel⟩⟩ q494 q496 q497 q495 q493 (by decide +kernel) yk_X15_compare rfl (by decide) (by decide) (Nat.le_trans aw_0 (by decide)) rfl (mX15_compare C.st ex4) dJ4_compare_26) ?_
    cases hf
    exact v_ireturn (pc := 31) C X.2.1 X.2.2.1 X.2.2.2.1 rfl dJ4_compare_31
  · rw [if_pos hc] at hf
    refine v_aload_n (pc := 7) (j := 1) C dJ4_compare_7 rfl rfl ?_
    obtain ⟨_, e6, hf⟩ := oB hf
    refine v_cast (pc := 8) C q1417 ct_java_lang_Comparable e6 dJ4_compare_8 ?_
    refine v_aload_n (pc := 11) (j := 2) C dJ4_compare_11 rfl rfl ?_
    obtain ⟨x8, ex8, hf⟩ := oB hf
    refine v_call (pc := 12) (dd_Comparable_compareTo_22_10 (pc := 12) C q1419 (by decide) (by decide) (Nat.le_trans aw_0 (by decide)) rfl ex8 dJ4_compare_12) ?_
    refine v_goto (pc := 17) (tgt := 31) C dJ4_compare_17 rfl ?_
    cases hf
    exact v_ireturn (pc := 31) C X.2.1 X.2.2.1 X.2.2.2.1 rfl dJ4_compare_31
theorem mJ4_compare {l : Launch} {D : aD} {h : aH} {a0 : Option Nat} {a1 : Option Nat} {a2 : Option Nat} {q : Int32} {g : aH} (hst : l.stackTraces = false) (hf : fJ4_compare D h a0 a1 a2 = some (q, g)) : aM l D yJ4_compare cJ4_compare 3 (some .int) 17 3248 [va_rf a0, va_rf a1, va_rf a2] h (.inr (some (.int q)), g) :=
  aM.ofX [(false, va_rf a0), (false, va_rf a1), (false, va_rf a2)] rfl (ap_r (ap_r (ap_r ap_0))) (by decide +kernel) hst (al_of (aw_r (aw_r (aw_r aw_0))) (by decide)) fun p e s m args below meth c X => V.sub (lv' := [(0, false, va_rf a0), (1, false, va_rf a1), (2, false, va_rf a2)]) [0, 1, 2] rfl (vJ4_compare X hf)
def fJ4_addEntryToEmptyMap (D : aD) (h : aH) (a0 : Option Nat) (a1 : Option Nat) (a2 : Option Nat) : Option (aH) :=
  (aIs h 16 a0).bind fun _ =>
  bnd2 (fJ4_compare D h a0 a1 a1) fun x2 h3 =>
  (aMk D h3 (17, dfJ34)).bind fun h4 =>
  (fJ34_init D h4 (some h3.1) a1 a2 none).bind fun h7 =>
  (pF D h7 16 3 a0 (va_rf (some h3.1))).bind fun h8 =>
  (pF D h8 16 4 a0 (.int (1 : Int32))).bind fun h9 =>
  (gI h9 16 5 a0).bind fun x10 =>
  (pF D h9 16 5 a0 (.int (x10 + (1 : Int32)))).bind fun h11 =>
  some h11
theorem vJ4_addEntryToEmptyMap {h : aH} {a0 : Option Nat} {a1 : Option Nat} {a2 : Option Nat} {g : aH} (X : aX p l R s m meth c D n0 s0 yJ4_addEntryToEmptyMap cJ4_addEntryToEmptyMap 18 3270 3 (none) h0) (hf : fJ4_addEntryToEmptyMap D h a0 a1 a2 = some g) : V p l e R s m args below meth c D n0 s0 (aEnd D below args s h0 (.inr none, g)) h 0 [(0, false, va_rf a0), (1, false, va_rf a1), (2, false, va_rf a2)] [] := by
  have C := X.1
  unfold fJ4_addEntryToEmptyMap at hf
  refine v_aload_n (pc := 0) (j := 0) C dJ4_addEntryToEmptyMap_0 rfl rfl ?_
  refine v_aload_n (pc := 1) (j := 1) C dJ4_addEntryToEmptyMap_1 rfl rfl ?_
  refine v_aload_n (pc := 2) (j := 1) C dJ4_addEntryToEmptyMap_2 rfl rfl ?_
  obtain ⟨b1, eb1, hf⟩ := oB hf
  obtain ⟨rb1, _, kb1⟩ := aIs_eq eb1
  obtain ⟨x2, h3, ex2, hf⟩ := bnd2_eq hf
  refine v_call (pc := 3) (d_V (pc := 3) C (As := [va_rf a1, va_rf a1]) (rest := []) rb1 kb1 nt_16 q1413 yi_J4_compare_java_util_TreeMap yk_J4_compare rfl (by decide) (by decide) (Nat.le_trans aw_0 (by decide)) rfl (mJ4_compare C.st ex2) dJ4_addEntryToEmptyMap_3) ?_
  refine v_pop (pc := 6) C dJ4_addEntryToEmptyMap_6 rfl ?_
  refine v_aload_n (pc := 7) (j := 0) C dJ4_addEntryToEmptyMap_7 rfl rfl ?_
  obtain ⟨h4, eh4, hf⟩ := oB hf
  refine v_new (pc := 8) (t := 17) (fs := dfJ34) (T := TJ34) (N := 6) C rfl in_J34 tyJ34 tyJ34_ok q1422 q1423 q119 dfJ34_ok rfl eh4 dJ4_addEntryToEmptyMap_8 ?_
  refine v_dup (pc := 11) C dJ4_addEntryToEmptyMap_11 (va_rfc _) ?_
  refine v_aload_n (pc := 12) (j := 1) C dJ4_addEntryToEmptyMap_12 rfl rfl ?_
  refine v_aload_n (pc := 13) (j := 2) C dJ4_addEntryToEmptyMap_13 rfl rfl ?_
  refine v_null (pc := 14) C dJ4_addEntryToEmptyMap_14 ?_
  obtain ⟨h7, ex6, hf⟩ := oB hf
  refine v_callU (pc := 15) (d_I (pc := 15) C (As := [va_rf a1, va_rf a2, va_rf none]) (rest := [va_rf (some h3.1), va_rf a0]) rfl rfl rfl q1424 q1425 yk_J34_init rfl (by decide) (by decide) (Nat.le_trans (aw_r (aw_r aw_0)) (by decide)) rfl (mJ34_init C.st ex6) dJ4_addEntryToEmptyMap_15) ?_
  obtain ⟨h8, eh8, hf⟩ := oB hf
  refine v_putF (pc := 18) C lk_J4_101 tyJ4 tyJ4_ok nmJ4 (tyJ4_ok 3 (by decide)) rfl ft_o eh8 dJ4_addEntryToEmptyMap_18 ?_
  refine v_aload_n (pc := 21) (j := 0) C dJ4_addEntryToEmptyMap_21 rfl rfl ?_
  refine v_iconst (pc := 22) (v := (1 : Int32)) C dJ4_addEntryToEmptyMap_22 rfl ?_
  obtain ⟨h9, eh9, hf⟩ := oB hf
  refine v_putF (pc := 23) C lk_J4_7 tyJ4 tyJ4_ok nmJ4 (tyJ4_ok 4 (by decide)) rfl rfl eh9 dJ4_addEntryToEmptyMap_23 ?_
  refine v_aload_n (pc := 26) (j := 0) C dJ4_addEntryToEmptyMap_26 rfl rfl ?_
  refine v_dup (pc := 27) C dJ4_addEntryToEmptyMap_27 (va_rfc _) ?_
  obtain ⟨x10, ex10, hf⟩ := oB hf
  refine v_getF (pc := 28) C lk_J4_13 (gI_eq ex10) dJ4_addEntryToEmptyMap_28 ?_
  refine v_iconst (pc := 31) (v := (1 : Int32)) C dJ4_addEntryToEmptyMap_31 rfl ?_
  refine v_iadd (pc := 32) C dJ4_addEntryToEmptyMap_32 ?_
  obtain ⟨h11, eh11, hf⟩ := oB hf
  refine v_putF (pc := 33) C lk_J4_13 tyJ4 tyJ4_ok nmJ4 (tyJ4_ok 5 (by decide)) rfl rfl eh11 dJ4_addEntryToEmptyMap_33 ?_
  cases hf
  exact v_return (pc := 36) C X.2.1 X.2.2.1 X.2.2.2.1 rfl dJ4_addEntryToEmptyMap_36
theorem mJ4_addEntryToEmptyMap {l : Launch} {D : aD} {h : aH} {a0 : Option Nat} {a1 : Option Nat} {a2 : Option Nat} {g : aH} (hst : l.stackTraces = false) (hf : fJ4_addEntryToEmptyMap D h a0 a1 a2 = some g) : aM l D yJ4_addEntryToEmptyMap cJ4_addEntryToEmptyMap 3 (none) 18 3270 [va_rf a0, va_rf a1, va_rf a2] h (.inr none, g) :=
  aM.ofX [(false, va_rf a0), (false, va_rf a1), (false, va_rf a2)] rfl (ap_r (ap_r (ap_r ap_0))) (by decide +kernel) hst (al_of (aw_r (aw_r (aw_r aw_0))) (by decide)) fun p e s m args below meth c X => V.sub (lv' := [(0, false, va_rf a0), (1, false, va_rf a1), (2, false, va_rf a2)]) [0, 1, 2] rfl (vJ4_addEntryToEmptyMap X hf)
def fJ4_put_2_p95 (D : aD) (h : aH) (a2 : Option Nat) (a4 : Option Nat) (a8 : Option Nat) : Option (Option Nat × aH) :=
  (pF D h 17 1 a4 (va_rf a2)).bind fun h1 =>
  some (a8, h1)
theorem vJ4_put_2_p95 {h : aH} {a2 : Option Nat} {a4 : Option Nat} {a8 : Option Nat} {q : Option Nat} {g : aH} (X : aX p l R s m meth c D n0 s0 yJ4_put_2 cJ4_put_2 19 3292 10 (some (.object "java/lang/Object")) h0) (hf : fJ4_put_2_p95 D h a2 a4 a8 = some (q, g)) : V p l e R s m args below meth c D n0 s0 (aEnd D below args s h0 (.inr (some (va_rf q)), g)) h 95 [(2, false, va_rf a2), (4, false, va_rf a4), (8, false, va_rf a8)] [] := by
  have C := X.1
  unfold fJ4_put_2_p95 at hf
  refine v_aload (pc := 95) (j := 1) C dJ4_put_2_95 rfl ?_
  refine v_aload_n (pc := 97) (j := 0) C dJ4_put_2_97 rfl rfl ?_
  obtain ⟨h1, eh1, hf⟩ := oB hf
  refine v_putF (pc := 98) C lk_J4_58 tyJ34 tyJ34_ok nmJ34 (tyJ34_ok 1 (by decide)) rfl ft_o eh1 dJ4_put_2_98 ?_
  refine v_aload (pc := 101) (j := 2) C dJ4_put_2_101 rfl ?_
  cases hf
  exact v_areturn (pc := 103) C X.2.1 X.2.2.1 X.2.2.2.1 (Or.inl ⟨_, rfl⟩) rfl dJ4_put_2_103
def fJ4_put_2_p79 (D : aD) (h : aH) (a2 : Option Nat) (a3 : Int32) (a4 : Option Nat) : Option (Option Nat × aH) :=
  (gR h 17 1 a4).bind fun x1 =>
  if a3 = 0 then
  (if x1 = none then
  (fJ4_put_2_p95 D h a2 a4 x1)
  else
  (some (x1, h)))
  else
  (fJ4_put_2_p95 D h a2 a4 x1)
theorem vJ4_put_2_p79 {h : aH} {a2 : Option Nat} {a3 : Int32} {a4 : Option Nat} {q : Option Nat} {g : aH} (X : aX p l R s m meth c D n0 s0 yJ4_put_2 cJ4_put_2 19 3292 10 (some (.object "java/lang/Object")) h0) (hf : fJ4_put_2_p79 D h a2 a3 a4 = some (q, g)) : V p l e R s m args below meth c D n0 s0 (aEnd D below args s h0 (.inr (some (va_rf q)), g)) h 79 [(2, false, va_rf a2), (3, false, .int a3), (4, false, va_rf a4)] [] := by
  have C := X.1
  unfold fJ4_put_2_p79 at hf
  refine v_aload (pc := 79) (j := 2) C dJ4_put_2_79 rfl ?_
  obtain ⟨x1, ex1, hf⟩ := oB hf
  refine v_getF (pc := 81) C lk_J4_58 (gR_eq ex1) dJ4_put_2_81 ?_
  refine v_astore (pc := 84) (lv' := [(8, false, va_rf x1), (2, false, va_rf a2), (3, false, .int a3), (4, false, va_rf a4)]) C dJ4_put_2_84 (by decide) rfl ?_
  refine v_iload_n (pc := 86) (j := 2) C dJ4_put_2_86 rfl rfl ?_
  refine v_if_ne (pc := 87) (tgt := 95) C dJ4_put_2_87 rfl (fun hc => ?_) (fun hc => ?_)
  · rw [if_neg hc] at hf
    exact V.sub [1, 3, 0] rfl (vJ4_put_2_p95 X hf)
  · rw [if_pos (Decidable.of_not_not hc)] at hf
    refine v_aload (pc := 90) (j := 0) C dJ4_put_2_90 rfl ?_
    refine v_ifnonnull (pc := 92) (tgt := 101) C dJ4_put_2_92 rfl (fun hc => ?_) (fun hc => ?_)
    · rw [if_neg hc] at hf
      refine v_aload (pc := 101) (j := 0) C dJ4_put_2_101 rfl ?_
      cases hf
      exact v_areturn (pc := 103) C X.2.1 X.2.2.1 X.2.2.2.1 (Or.inl ⟨_, rfl⟩) rfl dJ4_put_2_103
    · rw [if_pos hc] at hf
      exact V.sub [1, 3, 0] rfl (vJ4_put_2_p95 X hf)
def fJ4_put_2_p216 (D : aD) (h : aH) (t0 : Option Nat) (t1 : Option Nat) (t2 : Option Nat) (t3 : Option Nat) (t4 : Int32) : Option (Option Nat × aH) :=
  (aIs h 16 t0).bind fun _ =>
  (fJ4_addEntry D h t0 t1 t2 t3 t4).bind fun h3 =>
  some (none, h3)
theorem vJ4_put_2_p216 {h : aH} {t0 : Option Nat} {t1 : Option Nat} {t2 : Option Nat} {t3 : Option Nat} {t4 : Int32} {q : Option Nat} {g : aH} (X : aX p l R s m meth c D n0 s0 yJ4_put_2 cJ4_put_2 19 3292 10 (some (.object "java/lang/Object")) h0) (hf : fJ4_put_2_p216 D h t0 t1 t2 t3 t4 = some (q, g)) : V p l e R s m args below meth c D n0 s0 (aEnd D below args s h0 (.inr (some (va_rf q)), g)) h 216 [] [.int t4, va_rf t3, va_rf t2, va_rf t1, va_rf t0] := by
  have C := X.1
  unfold fJ4_put_2_p216 at hf
  obtain ⟨b1, eb1, hf⟩ := oB hf
  obtain ⟨rb1, _, kb1⟩ := aIs_eq eb1
  obtain ⟨h3, ex2, hf⟩ := oB hf
  refine v_callU (pc := 216) (d_V (pc := 216) C (As := [va_rf t1, va_rf t2, va_rf t3, .int t4]) (rest := []) rb1 kb1 nt_16 q1456 yi_J4_addEntry_java_util_TreeMap yk_J4_addEntry rfl (by decide) (by decide) (Nat.le_trans aw_0 (by decide)) rfl (mJ4_addEntry C.st ex2) dJ4_put_2_216) ?_
  refine v_null (pc := 219) C dJ4_put_2_219 ?_
  cases hf
  exact v_areturn (pc := 220) C X.2.1 X.2.2.1 X.2.2.2.1 (Or.inl ⟨_, rfl⟩) rfl dJ4_put_2_220
def fJ4_put_2_p201 (D : aD) (h : aH) (a0 : Option Nat) (a1 : Option Nat) (a2 : Option Nat) (a5 : Int32) (a6 : Option Nat) : Option (Option Nat × aH) :=
  fJ4_put_2_p216 D h a0 a1 a2 a6 (if 0 ≤ a5 then (0 : Int32) else (1 : Int32))
theorem vJ4_put_2_p201 {h : aH} {a0 : Option Nat} {a1 : Option Nat} {a2 : Option Nat} {a5 : Int32} {a6 : Option Nat} {q : Option Nat} {g : aH} (X : aX p l R s m meth c D n0 s0 yJ4_put_2 cJ4_put_2 19 3292 10 (some (.object "java/lang/Object")) h0) (hf : fJ4_put_2_p201 D h a0 a1 a2 a5 a6 = some (q, g)) : V p l e R s m args below meth c D n0 s0 (aEnd D below args s h0 (.inr (some (va_rf q)), g)) h 201 [(0, false, va_rf a0), (1, false, va_rf a1), (2, false, va_rf a2), (5, false, .int a5), (6, false, va_rf a6)] [] := by
  have C := X.1
  unfold fJ4_put_2_p201 at hf
  refine v_aload_n (pc := 201) (j := 0) C dJ4_put_2_201 rfl rfl ?_
  refine v_aload_n (pc := 202) (j := 1) C dJ4_put_2_202 rfl rfl ?_
  refine v_aload_n (pc := 203) (j := 2) C dJ4_put_2_203 rfl rfl ?_
  refine v_aload (pc := 204) (j := 4) C dJ4_put_2_204 rfl ?_
  refine v_iload (pc := 206) (j := 3) C dJ4_put_2_206 rfl ?_
  refine v_if_ge (pc := 208) (tgt := 215) C dJ4_put_2_208 rfl (fun hc => ?_) (fun hc => ?_)
  · simp only [if_pos hc] at hf
    refine v_iconst (pc := 215) (v := (0 : Int32)) C dJ4_put_2_215 rfl ?_
    exact V.sub [] rfl (vJ4_put_2_p216 X hf)
  · simp only [if_neg hc] at hf
    refine v_iconst (pc := 211) (v := (1 : Int32)) C dJ4_put_2_211 rfl ?_
    refine v_goto (pc := 212) (tgt := 216) C dJ4_put_2_212 rfl ?_
    exact V.sub [] rfl (vJ4_put_2_p216 X hf)
def fJ4_put_2_p104 (D : aD) (K30 : aH → (Option Nat) → (Option Nat) → (Option Nat) → Int32 → (Option Nat) → (Option Nat) → Option (Option Nat × aH)) (h : aH) (a0 : Option Nat) (a1 : Option Nat) (a2 : Option Nat) (a3 : Int32) (a4 : Option Nat) (a5 : Int32) (a6 : Option Nat) (a7 : Option Nat) : Option (Option Nat × aH) :=
  if a4 = none then
  (fJ4_put_2_p201 D h a0 a1 a2 a5 a6)
  else
  (K30 h a0 a1 a2 a3 a4 a7)
theorem vJ4_put_2_p104 {h : aH} {K30 : aH → (Option Nat) → (Option Nat) → (Option Nat) → Int32 → (Option Nat) → (Option Nat) → Option (Option Nat × aH)} {a0 : Option Nat} {a1 : Option Nat} {a2 : Option Nat} {a3 : Int32} {a4 : Option Nat} {a5 : Int32} {a6 : Option Nat} {a7 : Option Nat} {q : Option Nat} {g : aH} (X : aX p l R s m meth c D n0 s0 yJ4_put_2 cJ4_put_2 19 3292 10 (some (.object "java/lang/Object")) h0) (k30 : ∀ (h : aH) (a0 : Option Nat) (a1 : Option Nat) (a2 : Option Nat) (a3 : Int32) (a4 : Option Nat) (a7 : Option Nat) (q : Option Nat) (g : aH), K30 h a0 a1 a2 a3 a4 a7 = some (q, g) → V p l e R s m args below meth c D n0 s0 (aEnd D below args s h0 (.inr (some (va_rf q)), g)) h 30 [(0, false, va_rf a0), (1, false, va_rf a1), (2, false, va_rf a2), (3, false, .int a3), (4, false, va_rf a4), (7, false, va_rf a7)] []) (hf : fJ4_put_2_p104 D K30 h a0 a1 a2 a3 a4 a5 a6 a7 = some (q, g)) : V p l e R s m args below meth c D n0 s0 (aEnd D below args s h0 (.inr (some (va_rf q)), g)) h 104 [(0, false, va_rf a0), (1, false, va_rf a1), (2, false, va_rf a2), (3, false, .int a3), (4, false, va_rf a4), (5, false, .int a5), (6, false, va_rf a6), (7, false, va_rf a7)] [] := by
  have C := X.1
  unfold fJ4_put_2_p104 at hf
  refine v_aload (pc := 104) (j := 4) C dJ4_put_2_104 rfl ?_
  refine v_ifnonnull (pc := 106) (tgt := 30) C dJ4_put_2_106 rfl (fun hc => ?_) (fun hc => ?_)
  · rw [if_neg hc] at hf
    exact V.sub [0, 1, 2, 3, 4, 7] rfl (k30 _ _ _ _ _ _ _ _ _ hf)
  · rw [if_pos hc] at hf
    refine v_goto (pc := 109) (tgt := 201) C dJ4_put_2_109 rfl ?_
    exact V.sub [0, 1, 2, 5, 6] rfl (vJ4_put_2_p201 X hf)
def fJ4_put_2_p30 (D : aD) : Nat → aH → (Option Nat) → (Option Nat) → (Option Nat) → Int32 → (Option Nat) → (Option Nat) → Option (Option Nat × aH)
  | 0, _, _, _, _, _, _, _ => none
  | n + 1, h, a0, a1, a2, a3, a4, a7 =>
  (gR h 17 0 a4).bind fun x1 =>
  (aIs h 14 a7).bind fun _ =>
  bnd2 (fX15_compare D h a7 a1 x1) fun x3 h4 =>
  if 0 ≤ x3 then
  (if x3 ≤ 0 then
  (fJ4_put_2_p79 D h4 a2 a3 a4)
  else
  ((gR h4 17 3 a4).bind fun x5 =>
  fJ4_put_2_p104 D (fJ4_put_2_p30 D n) h4 a0 a1 a2 a3 x5 x3 a4 a7))
  else
  ((gR h4 17 2 a4).bind fun x6 =>
  fJ4_put_2_p104 D (fJ4_put_2_p30 D n) h4 a0 a1 a2 a3 x6 x3 a4 a7)
theorem vJ4_put_2_p30 (X : aX p l R s m meth c D n0 s0 yJ4_put_2 cJ4_put_2 19 3292 10 (some (.object "java/lang/Object")) h0) : ∀ (n : Nat) (h : aH) (a0 : Option Nat) (a1 : Option Nat) (a2 : Option Nat) (a3 : Int32) (a4 : Option Nat) (a7 : Option Nat) (q : Option Nat) (g : aH), fJ4_put_2_p30 D n h a0 a1 a2 a3 a4 a7 = some (q, g) → V p l e R s m args below meth c D n0 s0 (aEnd D below args s h0 (.inr (some (va_rf q)), g)) h 30 [(0, false, va_rf a0), (1, false, va_rf a1), (2, false, va_rf a2), (3, false, .int a3), (4, false, va_rf a4), (7, false, va_rf a7)] [] := by
  have C := X.1
  intro n
  induction n with
  | zero =>
    intro _ _ _ _ _ _ _ _ _ hf
    rw [fJ4_put_2_p30] at hf
    cases hf
  | succ n ih =>
    intro h a0 a1 a2 a3 a4 a7 q g hf
    rw [fJ4_put_2_p30] at hf
    refine v_aload (pc := 30) (j := 4) C dJ4_put_2_30 rfl ?_
    refine v_astore (pc := 32) (lv' := [(6, false, va_rf a4), (0, false, va_rf a0), (1, false, va_rf a1), (2, false, va_rf a2), (3, false, .int a3), (4, false, va_rf a4), (7, false, va_rf a7)]) C dJ4_put_2_32 (by decide) rfl ?_
    refine v_aload (pc := 34) (j := 6) C dJ4_put_2_34 rfl ?_
    refine v_aload_n (pc := 36) (j := 2) C dJ4_put_2_36 rfl rfl ?_
    refine v_aload (pc := 37) (j := 5) C dJ4_put_2_37 rfl ?_
    obtain ⟨x1, ex1, hf⟩ := oB hf
    refine v_getF (pc := 39) C lk_J4_105 (gR_eq ex1) dJ4_put_2_39 ?_
    obtain ⟨b2, eb2, hf⟩ := oB hf
    obtain ⟨rb2, _, kb2⟩ := aIs_eq eb2
    obtain ⟨x3, h4, ex3, hf⟩ := bnd2_eq hf
    refine v_call (pc := 42) (d_F (pc := 42) C (As := [va_rf a1, va_rf x1]) (rest := []) rb2 kb2 nt_14 q1421 q492 ⟨q491, ⟨by decide +kernel, by decide +kernel⟩⟩ q494 q496 q497 q495 q493 (by decide +kernel) yk_X15_compare rfl (by decide) (by decide) (Nat.le_trans aw_0 (by decide)) rfl (mX15_compare C.st ex3) dJ4_put_2_42) ?_
    refine v_istore (pc := 47) (lv' := [(5, false, .int x3), (6, false, va_rf a4), (0, false, va_rf a0), (1, false, va_rf a1), (2, false, va_rf a2), (3, false, .int a3), (4, false, va_rf a4), (7, false, va_rf a7)]) C dJ4_put_2_47 (by decide) rfl ?_
    refine v_iload (pc := 49) (j := 0) C dJ4_put_2_49 rfl ?_
    refine v_if_ge (pc := 51) (tgt := 64) C dJ4_put_2_51 rfl (fun hc => ?_) (fun hc => ?_)
    · rw [if_pos hc] at hf
      refine v_iload (pc := 64) (j := 0) C dJ4_put_2_64 rfl ?_
      refine v_if_le (pc := 66) (tgt := 79) C dJ4_put_2_66 rfl (fun hc => ?_) (fun hc => ?_)
      · rw [if_pos hc] at hf
        exact V.sub [4, 5, 6] rfl (vJ4_put_2_p79 X hf)
      · rw [if_neg hc] at hf
        refine v_aload (pc := 69) (j := 6) C dJ4_put_2_69 rfl ?_
        obtain ⟨x5, ex5, hf⟩ := oB hf
        refine v_getF (pc := 71) C lk_J4_114 (gR_eq ex5) dJ4_put_2_71 ?_
        refine v_astore (pc := 74) (lv' := [(4, false, va_rf x5), (5, false, .int x3), (6, false, va_rf a4), (0, false, va_rf a0), (1, false, va_rf a1), (2, false, va_rf a2), (3, false, .int a3), (7, false, va_rf a7)]) C dJ4_put_2_74 (by decide) rfl ?_
        refine v_goto (pc := 76) (tgt := 104) C dJ4_put_2_76 rfl ?_
        exact V.sub [3, 4, 5, 6, 0, 1, 2, 7] rfl (vJ4_put_2_p104 X ih hf)
    · rw [if_neg hc] at hf
      refine v_aload (pc := 54) (j := 6) C dJ4_put_2_54 rfl ?_
      obtain ⟨x6, ex6, hf⟩ := oB hf
      refine v_getF (pc := 56) C lk_J4_111 (gR_eq ex6) dJ4_put_2_56 ?_
      refine v_astore (pc := 59) (lv' := [(4, false, va_rf x6), (5, false, .int x3), (6, false, va_rf a4), (0, false, va_rf a0), (1, false, va_rf a1), (2, false, va_rf a2), (3, false, .int a3), (7, false, va_rf a7)]) C dJ4_put_2_59 (by decide) rfl ?_
      refine v_goto (pc := 61) (tgt := 104) C dJ4_put_2_61 rfl ?_
      exact V.sub [3, 4, 5, 6, 0, 1, 2, 7] rfl (vJ4_put_2_p104 X ih hf)
def fJ4_put_2_p187 (D : aD) (h : aH) (a2 : Option Nat) (a4 : Option Nat) (a9 : Option Nat) : Option (Option Nat × aH) :=
  (pF D h 17 1 a4 (va_rf a2)).bind fun h1 =>
  some (a9, h1)
theorem vJ4_put_2_p187 {h : aH} {a2 : Option Nat} {a4 : Option Nat} {a9 : Option Nat} {q : Option Nat} {g : aH} (X : aX p l R s m meth c D n0 s0 yJ4_put_2 cJ4_put_2 19 3292 10 (some (.object "java/lang/Object")) h0) (hf : fJ4_put_2_p187 D h a2 a4 a9 = some (q, g)) : V p l e R s m args below meth c D n0 s0 (aEnd D below args s h0 (.inr (some (va_rf q)), g)) h 187 [(2, false, va_rf a2), (4, false, va_rf a4), (9, false, va_rf a9)] [] := by
  have C := X.1
  unfold fJ4_put_2_p187 at hf
  refine v_aload (pc := 187) (j := 1) C dJ4_put_2_187 rfl ?_
  refine v_aload_n (pc := 189) (j := 0) C dJ4_put_2_189 rfl rfl ?_
  obtain ⟨h1, eh1, hf⟩ := oB hf
  refine v_putF (pc := 190) C lk_J4_58 tyJ34 tyJ34_ok nmJ34 (tyJ34_ok 1 (by decide)) rfl ft_o eh1 dJ4_put_2_190 ?_
  refine v_aload (pc := 193) (j := 2) C dJ4_put_2_193 rfl ?_
  cases hf
  exact v_areturn (pc := 195) C X.2.1 X.2.2.1 X.2.2.2.1 (Or.inl ⟨_, rfl⟩) rfl dJ4_put_2_195
def fJ4_put_2_p171 (D : aD) (h : aH) (a2 : Option Nat) (a3 : Int32) (a4 : Option Nat) : Option (Option Nat × aH) :=
  (gR h 17 1 a4).bind fun x1 =>
  if a3 = 0 then
  (if x1 = none then
  (fJ4_put_2_p187 D h a2 a4 x1)
  else
  (some (x1, h)))
  else
  (fJ4_put_2_p187 D h a2 a4 x1)
theorem vJ4_put_2_p171 {h : aH} {a2 : Option Nat} {a3 : Int32} {a4 : Option Nat} {q : Option Nat} {g : aH} (X : aX p l R s m meth c D n0 s0 yJ4_put_2 cJ4_put_2 19 3292 10 (some (.object "java/lang/Object")) h0) (hf : fJ4_put_2_p171 D h a2 a3 a4 = some (q, g)) : V p l e R s m args below meth c D n0 s0 (aEnd D below args s h0 (.inr (some (va_rf q)), g)) h 171 [(2, false, va_rf a2), (3, false, .int a3), (4, false, va_rf a4)] [] := by
  have C := X.1
  unfold fJ4_put_2_p171 at hf
  refine v_aload (pc := 171) (j := 2) C dJ4_put_2_171 rfl ?_
  obtain ⟨x1, ex1, hf⟩ := oB hf
  refine v_getF (pc := 173) C lk_J4_58 (gR_eq ex1) dJ4_put_2_173 ?_
  refine v_astore (pc := 176) (lv' := [(9, false, va_rf x1), (2, false, va_rf a2), (3, false, .int a3), (4, false, va_rf a4)]) C dJ4_put_2_176 (by decide) rfl ?_
  refine v_iload_n (pc := 178) (j := 2) C dJ4_put_2_178 rfl rfl ?_
  refine v_if_ne (pc := 179) (tgt := 187) C dJ4_put_2_179 rfl (fun hc => ?_) (fun hc => ?_)
  · rw [if_neg hc] at hf
    exact V.sub [1, 3, 0] rfl (vJ4_put_2_p187 X hf)
  · rw [if_pos (Decidable.of_not_not hc)] at hf
    refine v_aload (pc := 182) (j := 0) C dJ4_put_2_182 rfl ?_
    refine v_ifnonnull (pc := 184) (tgt := 193) C dJ4_put_2_184 rfl (fun hc => ?_) (fun hc => ?_)
    · rw [if_neg hc] at hf
      refine v_aload (pc := 193) (j := 0) C dJ4_put_2_193 rfl ?_
      cases hf
      exact v_areturn (pc := 195) C X.2.1 X.2.2.1 X.2.2.2.1 (Or.inl ⟨_, rfl⟩) rfl dJ4_put_2_195
    · rw [if_pos hc] at hf
      exact V.sub [1, 3, 0] rfl (vJ4_put_2_p187 X hf)
def fJ4_put_2_p196 (D : aD) (K123 : aH → (Option Nat) → (Option Nat) → (Option Nat) → Int32 → (Option Nat) → (Option Nat) → Option (Option Nat × aH)) (h : aH) (a0 : Option Nat) (a1 : Option Nat) (a2 : Option Nat) (a3 : Int32) (a4 : Option Nat) (a5 : Int32) (a6 : Option Nat) (a8 : Option Nat) : Option (Option Nat × aH) :=
  if a4 = none then
  (fJ4_put_2_p201 D h a0 a1 a2 a5 a6)
  else
  (K123 h a0 a1 a2 a3 a4 a8)
theorem vJ4_put_2_p196 {h : aH} {K123 : aH → (Option Nat) → (Option Nat) → (Option Nat) → Int32 → (Option Nat) → (Option Nat) → Option (Option Nat × aH)} {a0 : Option Nat} {a1 : Option Nat} {a2 : Option Nat} {a3 : Int32} {a4 : Option Nat} {a5 : Int32} {a6 : Option Nat} {a8 : Option Nat} {q : Option Nat} {g : aH} (X : aX p l R s m meth c D n0 s0 yJ4_put_2 cJ4_put_2 19 3292 10 (some (.object "java/lang/Object")) h0) (k123 : ∀ (h : aH) (a0 : Option Nat) (a1 : Option Nat) (a2 : Option Nat) (a3 : Int32) (a4 : Option Nat) (a8 : Option Nat) (q : Option Nat) (g : aH), K123 h a0 a1 a2 a3 a4 a8 = some (q, g) → V p l e R s m args below meth c D n0 s0 (aEnd D below args s h0 (.inr (some (va_rf q)), g)) h 123 [(0, false, va_rf a0), (1, false, va_rf a1), (2, false, va_rf a2), (3, false, .int a3), (4, false, va_rf a4), (8, false, va_rf a8)] []) (hf : fJ4_put_2_p196 D K123 h a0 a1 a2 a3 a4 a5 a6 a8 = some (q, g)) : V p l e R s m args below meth c D n0 s0 (aEnd D below args s h0 (.inr (some (va_rf q)), g)) h 196 [(0, false, va_rf a0), (1, false, va_rf a1), (2, false, va_rf a2), (3, false, .int a3), (4, false, va_rf a4), (5, false, .int a5), (6, false, va_rf a6), (8, false, va_rf a8)] [] := by
  have C := X.1
  unfold fJ4_put_2_p196 at hf
  refine v_aload (pc := 196) (j := 4) C dJ4_put_2_196 rfl ?_
  refine v_ifnonnull (pc := 198) (tgt := 123) C dJ4_put_2_198 rfl (fun hc => ?_) (fun hc => ?_)
  · rw [if_neg hc] at hf
    exact V.sub [0, 1, 2, 3, 4, 7] rfl (k123 _ _ _ _ _ _ _ _ _ hf)
  · rw [if_pos hc] at hf
    exact V.sub [0, 1, 2, 5, 6] rfl (vJ4_put_2_p201 X hf)
def fJ4_put_2_p123 (D : aD) : Nat → aH → (Option Nat) → (Option Nat) → (Option Nat) → Int32 → (Option Nat) → (Option Nat) → Option (Option Nat × aH)
  | 0, _, _, _, _, _, _, _ => none
  | n + 1, h, a0, a1, a2, a3, a4, a8 =>
  (gR h 17 0 a4).bind fun x1 =>
  (fd_Comparable_compareTo_22_10 D h a8 x1).bind fun x3 =>
  if 0 ≤ x3 then
  (if x3 ≤ 0 then
  (fJ4_put_2_p171 D h a2 a3 a4)
  else
  ((gR h 17 3 a4).bind fun x5 =>
  fJ4_put_2_p196 D (fJ4_put_2_p123 D n) h a0 a1 a2 a3 x5 x3 a4 a8))
  else
  ((gR h 17 2 a4).bind fun x6 =>
  fJ4_put_2_p196 D (fJ4_put_2_p123 D n) h a0 a1 a2 a3 x6 x3 a4 a8)
theorem vJ4_put_2_p123 (X : aX p l R s m meth c D n0 s0 yJ4_put_2 cJ4_put_2 19 3292 10 (some (.object "java/lang/Object")) h0) : ∀ (n : Nat) (h : aH) (a0 : Option Nat) (a1 : Option Nat) (a2 : Option Nat) (a3 : Int32) (a4 : Option Nat) (a8 : Option Nat) (q : Option Nat) (g : aH), fJ4_put_2_p123 D n h a0 a1 a2 a3 a4 a8 = some (q, g) → V p l e R s m args below meth c D n0 s0 (aEnd D below args s h0 (.inr (some (va_rf q)), g)) h 123 [(0, false, va_rf a0), (1, false, va_rf a1), (2, false, va_rf a2), (3, false, .int a3), (4, false, va_rf a4), (8, false, va_rf a8)] [] := by
  have C := X.1
  intro n
  induction n with
  | zero =>
    intro _ _ _ _ _ _ _ _ _ hf
    rw [fJ4_put_2_p123] at hf
    cases hf
  | succ n ih =>
    intro h a0 a1 a2 a3 a4 a8 q g hf
    rw [fJ4_put_2_p123] at hf
    refine v_aload (pc := 123) (j := 4) C dJ4_put_2_123 rfl ?_
    refine v_astore (pc := 125) (lv' := [(6, false, va_rf a4), (0, false, va_rf a0), (1, false, va_rf a1), (2, false, va_rf a2), (3, false, .int a3), (4, false, va_rf a4), (8, false, va_rf a8)]) C dJ4_put_2_125 (by decide) rfl ?_
    refine v_aload (pc := 127) (j := 6) C dJ4_put_2_127 rfl ?_
    refine v_aload (pc := 129) (j := 5) C dJ4_put_2_129 rfl ?_
    obtain ⟨x1, ex1, hf⟩ := oB hf
    refine v_getF (pc := 131) C lk_J4_105 (gR_eq ex1) dJ4_put_2_131 ?_
    obtain ⟨x3, ex3, hf⟩ := oB hf
    refine v_call (pc := 134) (dd_Comparable_compareTo_22_10 (pc := 134) C q1419 (by decide) (by decide) (Nat.le_trans aw_0 (by decide)) rfl ex3 dJ4_put_2_134) ?_
    refine v_istore (pc := 139) (lv' := [(5, false, .int x3), (6, false, va_rf a4), (0, false, va_rf a0), (1, false, va_rf a1), (2, false, va_rf a2), (3, false, .int a3), (4, false, va_rf a4), (8, false, va_rf a8)]) C dJ4_put_2_139 (by decide) rfl ?_
    refine v_iload (pc := 141) (j := 0) C dJ4_put_2_141 rfl ?_
    refine v_if_ge (pc := 143) (tgt := 156) C dJ4_put_2_143 rfl (fun hc => ?_) (fun hc => ?_)
    · rw [if_pos hc] at hf
      refine v_iload (pc := 156) (j := 0) C dJ4_put_2_156 rfl ?_
      refine v_if_le (pc := 158) (tgt := 171) C dJ4_put_2_158 rfl (fun hc => ?_) (fun hc => ?_)
      · rw [if_pos hc] at hf
        exact V.sub [4, 5, 6] rfl (vJ4_put_2_p171 X hf)
      · rw [if_neg hc] at hf
        refine v_aload (pc := 161) (j := 6) C dJ4_put_2_161 rfl ?_
        obtain ⟨x5, ex5, hf⟩ := oB hf
        refine v_getF (pc := 163) C lk_J4_114 (gR_eq ex5) dJ4_put_2_163 ?_
        refine v_astore (pc := 166) (lv' := [(4, false, va_rf x5), (5, false, .int x3), (6, false, va_rf a4), (0, false, va_rf a0), (1, false, va_rf a1), (2, false, va_rf a2), (3, false, .int a3), (8, false, va_rf a8)]) C dJ4_put_2_166 (by decide) rfl ?_
        refine v_goto (pc := 168) (tgt := 196) C dJ4_put_2_168 rfl ?_
        exact V.sub [3, 4, 5, 6, 0, 1, 2, 7] rfl (vJ4_put_2_p196 X ih hf)
    · rw [if_neg hc] at hf
      refine v_aload (pc := 146) (j := 6) C dJ4_put_2_146 rfl ?_
      obtain ⟨x6, ex6, hf⟩ := oB hf
      refine v_getF (pc := 148) C lk_J4_111 (gR_eq ex6) dJ4_put_2_148 ?_
      refine v_astore (pc := 151) (lv' := [(4, false, va_rf x6), (5, false, .int x3), (6, false, va_rf a4), (0, false, va_rf a0), (1, false, va_rf a1), (2, false, va_rf a2), (3, false, .int a3), (8, false, va_rf a8)]) C dJ4_put_2_151 (by decide) rfl ?_
      refine v_goto (pc := 153) (tgt := 196) C dJ4_put_2_153 rfl ?_
      exact V.sub [3, 4, 5, 6, 0, 1, 2, 7] rfl (vJ4_put_2_p196 X ih hf)
def fJ4_put_2 (D : aD) (h : aH) (a0 : Option Nat) (a1 : Option Nat) (a2 : Option Nat) (a3 : Int32) : Option (Option Nat × aH) :=
  (gR h 16 3 a0).bind fun x1 =>
  if x1 = none then
  ((aIs h 16 a0).bind fun _ =>
  (fJ4_addEntryToEmptyMap D h a0 a1 a2).bind fun h9 =>
  some (none, h9))
  else
  ((gR h 16 2 a0).bind fun x2 =>
  if x2 = none then
  ((fJ16_requireNonNull D h a1).bind fun x4 =>
  (aCast h [6, 10, 22] a1).bind fun _ =>
  fJ4_put_2_p123 D FU h a0 a1 a2 a3 x1 a1)
  else
  (fJ4_put_2_p30 D FU h a0 a1 a2 a3 x1 x2))
theorem vJ4_put_2 {h : aH} {a0 : Option Nat} {a1 : Option Nat} {a2 : Option Nat} {a3 : Int32} {q : Option Nat} {g : aH} (X : aX p l R s m meth c D n0 s0 yJ4_put_2 cJ4_put_2 19 3292 10 (some (.object "java/lang/Object")) h0) (hf : fJ4_put_2 D h a0 a1 a2 a3 = some (q, g)) : V p l e R s m args below meth c D n0 s0 (aEnd D below args s h0 (.inr (some (va_rf q)), g)) h 0 [(0, false, va_rf a0), (1, false, va_rf a1), (2, false, va_rf a2), (3, false, .int a3)] [] := by
  have C := X.1
  unfold fJ4_put_2 at hf
  refine v_aload_n (pc := 0) (j := 0) C dJ4_put_2_0 rfl rfl ?_
  obtain ⟨x1, ex1, hf⟩ := oB hf
  refine v_getF (pc := 1) C lk_J4_101 (gR_eq ex1) dJ4_put_2_1 ?_
  refine v_astore (pc := 4) (lv' := [(4, false, va_rf x1), (0, false, va_rf a0), (1, false, va_rf a1), (2, false, va_rf a2), (3, false, .int a3)]) C dJ4_put_2_4 (by decide) rfl ?_
  refine v_aload (pc := 6) (j := 0) C dJ4_put_2_6 rfl ?_
  refine v_ifnonnull (pc := 8) (tgt := 19) C dJ4_put_2_8 rfl (fun hc => ?_) (fun hc => ?_)
  · rw [if_neg hc] at hf
    refine v_aload_n (pc := 19) (j := 1) C dJ4_put_2_19 rfl rfl ?_
    obtain ⟨x2, ex2, hf⟩ := oB hf
    refine v_getF (pc := 20) C lk_J4_16 (gR_eq ex2) dJ4_put_2_20 ?_
    refine v_astore (pc := 23) (lv' := [(7, false, va_rf x2), (4, false, va_rf x1), (0, false, va_rf a0), (1, false, va_rf a1), (2, false, va_rf a2), (3, false, .int a3)]) C dJ4_put_2_23 (by decide) rfl ?_
    refine v_aload (pc := 25) (j := 0) C dJ4_put_2_25 rfl ?_
    refine v_ifnull (pc := 27) (tgt := 112) C dJ4_put_2_27 rfl (fun hc => ?_) (fun hc => ?_)
    · rw [if_pos hc] at hf
      refine v_aload_n (pc := 112) (j := 3) C dJ4_put_2_112 rfl rfl ?_
      obtain ⟨x4, ex4, hf⟩ := oB hf
      refine v_call (pc := 113) (d_S (pc := 113) C (As := [va_rf a1]) (rest := []) q1453 q1454 yk_J16_requireNonNull rfl (by decide) (by decide) (Nat.le_trans aw_0 (by decide)) rfl (mJ16_requireNonNull C.st ex4) dJ4_put_2_113) ?_
      refine v_pop (pc := 116) C dJ4_put_2_116 (va_rfc _) ?_
      refine v_aload_n (pc := 117) (j := 3) C dJ4_put_2_117 rfl rfl ?_
      obtain ⟨_, e6, hf⟩ := oB hf
      refine v_cast (pc := 118) C q1417 ct_java_lang_Comparable e6 dJ4_put_2_118 ?_
      refine v_astore (pc := 121) (lv' := [(8, false, va_rf a1), (7, false, va_rf x2), (4, false, va_rf x1), (0, false, va_rf a0), (1, false, va_rf a1), (2, false, va_rf a2), (3, false, .int a3)]) C dJ4_put_2_121 (by decide) rfl ?_
      exact V.sub [3, 4, 5, 6, 2, 0] rfl (vJ4_put_2_p123 X _ _ _ _ _ _ _ _ _ _ hf)
    · rw [if_neg hc] at hf
      exact V.sub [2, 3, 4, 5, 1, 0] rfl (vJ4_put_2_p30 X _ _ _ _ _ _ _ _ _ _ hf)
  · rw [if_pos hc] at hf
    refine v_aload_n (pc := 11) (j := 1) C dJ4_put_2_11 rfl rfl ?_
    refine v_aload_n (pc := 12) (j := 2) C dJ4_put_2_12 rfl rfl ?_
    refine v_aload_n (pc := 13) (j := 3) C dJ4_put_2_13 rfl rfl ?_
    obtain ⟨b7, eb7, hf⟩ := oB hf
    obtain ⟨rb7, _, kb7⟩ := aIs_eq eb7
    obtain ⟨h9, ex8, hf⟩ := oB hf
    refine v_callU (pc := 14) (d_V (pc := 14) C (As := [va_rf a1, va_rf a2]) (rest := []) rb7 kb7 nt_16 q1409 yi_J4_addEntryToEmptyMap_java_util_TreeMap yk_J4_addEntryToEmptyMap rfl (by decide) (by decide) (Nat.le_trans aw_0 (by decide)) rfl (mJ4_addEntryToEmptyMap C.st ex8) dJ4_put_2_14) ?_
    refine v_null (pc := 17) C dJ4_put_2_17 ?_
    cases hf
    exact v_areturn (pc := 18) C X.2.1 X.2.2.1 X.2.2.2.1 (Or.inl ⟨_, rfl⟩) rfl dJ4_put_2_18
theorem mJ4_put_2 {l : Launch} {D : aD} {h : aH} {a0 : Option Nat} {a1 : Option Nat} {a2 : Option Nat} {a3 : Int32} {q : Option Nat} {g : aH} (hst : l.stackTraces = false) (hf : fJ4_put_2 D h a0 a1 a2 a3 = some (q, g)) : aM l D yJ4_put_2 cJ4_put_2 10 (some (.object "java/lang/Object")) 19 3292 [va_rf a0, va_rf a1, va_rf a2, .int a3] h (.inr (some (va_rf q)), g) :=
  aM.ofX [(false, va_rf a0), (false, va_rf a1), (false, va_rf a2), (false, .int a3)] rfl (ap_r (ap_r (ap_r (ap_c rfl ap_0)))) (by decide +kernel) hst (al_of (aw_r (aw_r (aw_r (aw_i aw_0)))) (by decide)) fun p e s m args below meth c X => V.sub (lv' := [(0, false, va_rf a0), (1, false, va_rf a1), (2, false, va_rf a2), (3, false, .int a3)]) [0, 1, 2, 3] rfl (vJ4_put_2 X hf)
def fJ4_put (D : aD) (h : aH) (a0 : Option Nat) (a1 : Option Nat) (a2 : Option Nat) : Option (Option Nat × aH) :=
  (aIs h 16 a0).bind fun _ =>
  bnd2 (fJ4_put_2 D h a0 a1 a2 (1 : Int32)) fun x2 h3 =>
  some (x2, h3)
theorem vJ4_put {h : aH} {a0 : Option Nat} {a1 : Option Nat} {a2 : Option Nat} {q : Option Nat} {g : aH} (X : aX p l R s m meth c D n0 s0 yJ4_put cJ4_put 20 3321 3 (some (.object "java/lang/Object")) h0) (hf : fJ4_put D h a0 a1 a2 = some (q, g)) : V p l e R s m args below meth c D n0 s0 (aEnd D below args s h0 (.inr (some (va_rf q)), g)) h 0 [(0, false, va_rf a0), (1, false, va_rf a1), (2, false, va_rf a2)] [] := by
  have C := X.1
  unfold fJ4_put at hf
  refine v_aload_n (pc := 0) (j := 0) C dJ4_put_0 rfl rfl ?_
  refine v_aload_n (pc := 1) (j := 1) C dJ4_put_1 rfl rfl ?_
  refine v_aload_n (pc := 2) (j := 2) C dJ4_put_2 rfl rfl ?_
  refine v_iconst (pc := 3) (v := (1 : Int32)) C dJ4_put_3 rfl ?_
  obtain ⟨b1, eb1, hf⟩ := oB hf
  obtain ⟨rb1, _, kb1⟩ := aIs_eq eb1
  obtain ⟨x2, h3, ex2, hf⟩ := bnd2_eq hf
  refine v_call (pc := 4) (d_V (pc := 4) C (As := [va_rf a1, va_rf a2, .int (1 : Int32)]) (rest := []) rb1 kb1 nt_16 q1405 yi_J4_put_2_java_util_TreeMap yk_J4_put_2 rfl (by decide) (by decide) (Nat.le_trans aw_0 (by decide)) rfl (mJ4_put_2 C.st ex2) dJ4_put_4) ?_
  cases hf
  exact v_areturn (pc := 7) C X.2.1 X.2.2.1 X.2.2.2.1 (Or.inl ⟨_, rfl⟩) rfl dJ4_put_7
theorem mJ4_put {l : Launch} {D : aD} {h : aH} {a0 : Option Nat} {a1 : Option Nat} {a2 : Option Nat} {q : Option Nat} {g : aH} (hst : l.stackTraces = false) (hf : fJ4_put D h a0 a1 a2 = some (q, g)) : aM l D yJ4_put cJ4_put 3 (some (.object "java/lang/Object")) 20 3321 [va_rf a0, va_rf a1, va_rf a2] h (.inr (some (va_rf q)), g) :=
  aM.ofX [(false, va_rf a0), (false, va_rf a1), (false, va_rf a2)] rfl (ap_r (ap_r (ap_r ap_0))) (by decide +kernel) hst (al_of (aw_r (aw_r (aw_r aw_0))) (by decide)) fun p e s m args below meth c X => V.sub (lv' := [(0, false, va_rf a0), (1, false, va_rf a1), (2, false, va_rf a2)]) [0, 1, 2] rfl (vJ4_put X hf)
def fJ35_add (D : aD) (h : aH) (a0 : Option Nat) (a1 : Option Nat) : Option (Int32 × aH) :=
  (gR h 18 0 a0).bind fun x1 =>
  (asR (D.2.2.2.2 1)).bind fun x2 =>
  (aIs h 16 x1).bind fun _ =>
  bnd2 (fJ4_put D h x1 a1 x2) fun x4 h5 =>
  if x4 = none then
  (some ((1 : Int32), h5))
  else
  (some ((0 : Int32), h5))
theorem vJ35_add {h : aH} {a0 : Option Nat} {a1 : Option Nat} {q : Int32} {g : aH} (X : aX p l R s m meth c D n0 s0 yJ35_add cJ35_add 21 3343 2 (some .boolean) h0) (hf : fJ35_add D h a0 a1 = some (q, g)) : V p l e R s m args below meth c D n0 s0 (aEnd D below args s h0 (.inr (some (.int q)), g)) h 0 [(0, false, va_rf a0), (1, false, va_rf a1)] [] := by
  have C := X.1
  unfold fJ35_add at hf
  refine v_aload_n (pc := 0) (j := 0) C dJ35_add_0 rfl rfl ?_
  obtain ⟨x1, ex1, hf⟩ := oB hf
  refine v_getF (pc := 1) C lk_J35_7 (gR_eq ex1) dJ35_add_1 ?_
  refine v_aload_n (pc := 4) (j := 1) C dJ35_add_4 rfl rfl ?_
  obtain ⟨x2, ex2, hf⟩ := oB hf
  refine v_statR (pc := 5) (k9 := 1) C rfl q1395 ex2 dJ35_add_5 ?_
  obtain ⟨b3, eb3, hf⟩ := oB hf
  obtain ⟨rb3, _, kb3⟩ := aIs_eq eb3
  obtain ⟨x4, h5, ex4, hf⟩ := bnd2_eq hf
  refine v_call (pc := 8) (d_FU (pc := 8) C (As := [va_rf a1, va_rf x2]) (rest := []) rb3 kb3 nt_16 (List.mem_of_getElem? (i := 4) rfl) (List.mem_of_getElem? (i := 0) rfl) (by decide +kernel) ⟨by decide +kernel, by decide +kernel⟩ q1399 q1398 ⟨by decide +kernel, by decide +kernel⟩ q1400 q1402 q1403 q1401 q833 (by decide +kernel) yk_J4_put rfl (by decide) (by decide) (Nat.le_trans aw_0 (by decide)) rfl (mJ4_put C.st ex4) dJ35_add_8) ?_
  refine v_ifnonnull (pc := 13) (tgt := 20) C dJ35_add_13 rfl (fun hc => ?_) (fun hc => ?_)
  · rw [if_neg hc] at hf
    refine v_iconst (pc := 20) (v := (0 : Int32)) C dJ35_add_20 rfl ?_
    cases hf
    exact v_zreturn (pc := 21) C X.2.1 X.2.2.1 X.2.2.2.1 (by decide) rfl dJ35_add_21
  · rw [if_pos hc] at hf
    refine v_iconst (pc := 16) (v := (1 : Int32)) C dJ35_add_16 rfl ?_
    refine v_goto (pc := 17) (tgt := 21) C dJ35_add_17 rfl ?_
    cases hf
    exact v_zreturn (pc := 21) C X.2.1 X.2.2.1 X.2.2.2.1 (by decide) rfl dJ35_add_21
theorem mJ35_add {l : Launch} {D : aD} {h : aH} {a0 : Option Nat} {a1 : Option Nat} {q : Int32} {g : aH} (hst : l.stackTraces = false) (hf : fJ35_add D h a0 a1 = some (q, g)) : aM l D yJ35_add cJ35_add 2 (some .boolean) 21 3343 [va_rf a0, va_rf a1] h (.inr (some (.int q)), g) :=
  aM.ofX [(false, va_rf a0), (false, va_rf a1)] rfl (ap_r (ap_r ap_0)) (by decide +kernel) hst (al_of (aw_r (aw_r aw_0)) (by decide)) fun p e s m args below meth c X => V.sub (lv' := [(0, false, va_rf a0), (1, false, va_rf a1)]) [0, 1] rfl (vJ35_add X hf)
def fX9_bounds_p162 (D : aD) (K18 : aH → (Option Nat) → Int32 → (Option Nat) → Int32 → Int32 → Option (Option Nat × aH)) (h : aH) (a0 : Option Nat) (a2 : Int32) (a3 : Option Nat) (a4 : Int32) (a5 : Int32) : Option (Option Nat × aH) :=
  K18 h a0 a2 a3 a4 (a5 + 1)
theorem vX9_bounds_p162 {h : aH} {K18 : aH → (Option Nat) → Int32 → (Option Nat) → Int32 → Int32 → Option (Option Nat × aH)} {a0 : Option Nat} {a2 : Int32} {a3 : Option Nat} {a4 : Int32} {a5 : Int32} {q : Option Nat} {g : aH} (X : aX p l R s m meth c D n0 s0 yX9_bounds cX9_bounds 22 3364 10 (some (.object "java/util/TreeSet")) h0) (k18 : ∀ (h : aH) (a0 : Option Nat) (a2 : Int32) (a3 : Option Nat) (a4 : Int32) (a5 : Int32) (q : Option Nat) (g : aH), K18 h a0 a2 a3 a4 a5 = some (q, g) → V p l e R s m args below meth c D n0 s0 (aEnd D below args s h0 (.inr (some (va_rf q)), g)) h 18 [(0, false, va_rf a0), (2, false, .int a2), (3, false, va_rf a3), (4, false, .int a4), (5, false, .int a5)] []) (hf : fX9_bounds_p162 D K18 h a0 a2 a3 a4 a5 = some (q, g)) : V p l e R s m args below meth c D n0 s0 (aEnd D below args s h0 (.inr (some (va_rf q)), g)) h 162 [(0, false, va_rf a0), (2, false, .int a2), (3, false, va_rf a3), (4, false, .int a4), (5, false, .int a5)] [] := by
  have C := X.1
  unfold fX9_bounds_p162 at hf
  refine v_iinc (pc := 162) (j := 4) (v := (a5 + 1)) (lv' := [(5, false, .int (a5 + 1)), (0, false, va_rf a0), (2, false, .int a2), (3, false, va_rf a3), (4, false, .int a4)]) C dX9_bounds_162 rfl rfl (by decide) rfl ?_
  refine v_goto (pc := 165) (tgt := 18) C dX9_bounds_165 rfl ?_
  exact V.sub [1, 2, 3, 4, 0] rfl (k18 _ _ _ _ _ _ _ _ hf)
def fX9_bounds_p135 (D : aD) (K18 : aH → (Option Nat) → Int32 → (Option Nat) → Int32 → Int32 → Option (Option Nat × aH)) (h : aH) (a0 : Option Nat) (a2 : Int32) (a3 : Option Nat) (a4 : Int32) (a5 : Int32) (a6 : Option Nat) (t0 : Int32) : Option (Option Nat × aH) :=
  if t0 = a2 then
  (fX9_bounds_p162 D K18 h a0 a2 a3 a4 a5)
  else
  ((aMk D h (10, dfX11)).bind fun h1 =>
  (aIs h1 7 a6).bind fun _ =>
  (fX8_year D h1 a6).bind fun x3 =>
  (gI h1 7 0 a6).bind fun x5 =>
  (fX11_init D h1 (some h.1) x3 x5).bind fun h8 =>
  (aIs h8 18 a3).bind fun _ =>
  bnd2 (fJ35_add D h8 a3 (some h.1)) fun x10 h11 =>
  fX9_bounds_p162 D K18 h11 a0 a2 a3 a4 a5)
theorem vX9_bounds_p135 {h : aH} {K18 : aH → (Option Nat) → Int32 → (Option Nat) → Int32 → Int32 → Option (Option Nat × aH)} {a0 : Option Nat} {a2 : Int32} {a3 : Option Nat} {a4 : Int32} {a5 : Int32} {a6 : Option Nat} {t0 : Int32} {q : Option Nat} {g : aH} (X : aX p l R s m meth c D n0 s0 yX9_bounds cX9_bounds 22 3364 10 (some (.object "java/util/TreeSet")) h0) (k18 : ∀ (h : aH) (a0 : Option Nat) (a2 : Int32) (a3 : Option Nat) (a4 : Int32) (a5 : Int32) (q : Option Nat) (g : aH), K18 h a0 a2 a3 a4 a5 = some (q, g) → V p l e R s m args below meth c D n0 s0 (aEnd D below args s h0 (.inr (some (va_rf q)), g)) h 18 [(0, false, va_rf a0), (2, false, .int a2), (3, false, va_rf a3), (4, false, .int a4), (5, false, .int a5)] []) (hf : fX9_bounds_p135 D K18 h a0 a2 a3 a4 a5 a6 t0 = some (q, g)) : V p l e R s m args below meth c D n0 s0 (aEnd D below args s h0 (.inr (some (va_rf q)), g)) h 135 [(0, false, va_rf a0), (2, false, .int a2), (3, false, va_rf a3), (4, false, .int a4), (5, false, .int a5), (6, false, va_rf a6)] [.int t0] := by
  have C := X.1
  unfold fX9_bounds_p135 at hf
  refine v_iload_n (pc := 135) (j := 1) C dX9_bounds_135 rfl rfl ?_
  refine v_icmp_eq (pc := 136) (tgt := 162) C dX9_bounds_136 rfl (fun hc => ?_) (fun hc => ?_)
  · rw [if_pos hc] at hf
    exact V.sub [0, 1, 2, 3, 4] rfl (vX9_bounds_p162 X k18 hf)
  · rw [if_neg hc] at hf
    refine v_aload_n (pc := 139) (j := 2) C dX9_bounds_139 rfl rfl ?_
    obtain ⟨h1, eh1, hf⟩ := oB hf
    refine v_new (pc := 140) (t := 10) (fs := dfX11) (T := TX11) (N := 2) C rfl in_X11 tyX11 tyX11_ok q1376 q1377 q123 dfX11_ok rfl eh1 dX9_bounds_140 ?_
    refine v_dup (pc := 143) C dX9_bounds_143 (va_rfc _) ?_
    refine v_aload (pc := 144) (j := 5) C dX9_bounds_144 rfl ?_
    obtain ⟨b2, eb2, hf⟩ := oB hf
    obtain ⟨rb2, _, kb2⟩ := aIs_eq eb2
    obtain ⟨x3, ex3, hf⟩ := oB hf
    refine v_call (pc := 146) (d_V (pc := 146) C (As := []) (rest := [va_rf (some h.1), va_rf (some h.1), va_rf a3]) rb2 kb2 nt_7 q1274 yi_X8_year_FigureSurvey_Finding yk_X8_year rfl (by decide) (by decide) (Nat.le_trans (aw_r (aw_r (aw_r aw_0))) (by decide)) rfl (mX8_year C.st ex3) dX9_bounds_146) ?_
    refine v_aload (pc := 149) (j := 5) C dX9_bounds_149 rfl ?_
    obtain ⟨x5, ex5, hf⟩ := oB hf
    refine v_getF (pc := 151) C lk_X9_170 (gI_eq ex5) dX9_bounds_151 ?_
    obtain ⟨h8, ex7, hf⟩ := oB hf
    refine v_callU (pc := 154) (d_I (pc := 154) C (As := [.int x3, .int x5]) (rest := [va_rf (some h.1), va_rf a3]) rfl rfl rfl q1378 q1379 yk_X11_init rfl (by decide) (by decide) (Nat.le_trans (aw_r (aw_r aw_0)) (by decide)) rfl (mX11_init C.st ex7) dX9_bounds_154) ?_
    obtain ⟨b9, eb9, hf⟩ := oB hf
    obtain ⟨rb9, _, kb9⟩ := aIs_eq eb9
    obtain ⟨x10, h11, ex10, hf⟩ := bnd2_eq hf
    refine v_call (pc := 157) (d_V (pc := 157) C (As := [va_rf (some h.1)]) (rest := []) rb9 kb9 nt_18 q1391 yi_J35_add_java_util_TreeSet yk_J35_add rfl (by decide) (by decide) (Nat.le_trans aw_0 (by decide)) rfl (mJ35_add C.st ex10) dX9_bounds_157) ?_
    refine v_istore (pc := 160) (lv' := [(9, false, .int x10), (0, false, va_rf a0), (2, false, .int a2), (3, false, va_rf a3), (4, false, .int a4), (5, false, .int a5), (6, false, va_rf a6)]) C dX9_bounds_160 (by decide) rfl ?_
    exact V.sub [1, 2, 3, 4, 5] rfl (vX9_bounds_p162 X k18 hf)
def fX9_bounds_p105 (D : aD) (K18 : aH → (Option Nat) → Int32 → (Option Nat) → Int32 → Int32 → Option (Option Nat × aH)) (h : aH) (a0 : Option Nat) (a2 : Int32) (a3 : Option Nat) (a4 : Int32) (a5 : Int32) (a6 : Option Nat) (t0 : Int32) : Option (Option Nat × aH) :=
  if t0 = 0 then
  (fX9_bounds_p162 D K18 h a0 a2 a3 a4 a5)
  else
  ((aIs h 8 a0).bind fun _ =>
  (fX9_isBroken D h a0 a6).bind fun x2 =>
  if x2 = 0 then
  ((gI h 7 1 a6).bind fun x4 =>
  fX9_bounds_p135 D K18 h a0 a2 a3 a4 a5 a6 (if x4 = (1 : Int32) then (1 : Int32) else (0 : Int32)))
  else
  (fX9_bounds_p162 D K18 h a0 a2 a3 a4 a5))
theorem vX9_bounds_p105 {h : aH} {K18 : aH → (Option Nat) → Int32 → (Option Nat) → Int32 → Int32 → Option (Option Nat × aH)} {a0 : Option Nat} {a2 : Int32} {a3 : Option Nat} {a4 : Int32} {a5 : Int32} {a6 : Option Nat} {t0 : Int32} {q : Option Nat} {g : aH} (X : aX p l R s m meth c D n0 s0 yX9_bounds cX9_bounds 22 3364 10 (some (.object "java/util/TreeSet")) h0) (k18 : ∀ (h : aH) (a0 : Option Nat) (a2 : Int32) (a3 : Option Nat) (a4 : Int32) (a5 : Int32) (q : Option Nat) (g : aH), K18 h a0 a2 a3 a4 a5 = some (q, g) → V p l e R s m args below meth c D n0 s0 (aEnd D below args s h0 (.inr (some (va_rf q)), g)) h 18 [(0, false, va_rf a0), (2, false, .int a2), (3, false, va_rf a3), (4, false, .int a4), (5, false, .int a5)] []) (hf : fX9_bounds_p105 D K18 h a0 a2 a3 a4 a5 a6 t0 = some (q, g)) : V p l e R s m args below meth c D n0 s0 (aEnd D below args s h0 (.inr (some (va_rf q)), g)) h 105 [(0, false, va_rf a0), (2, false, .int a2), (3, false, va_rf a3), (4, false, .int a4), (5, false, .int a5), (6, false, va_rf a6)] [.int t0] := by
  have C := X.1
  unfold fX9_bounds_p105 at hf
  refine v_istore (pc := 105) (lv' := [(8, false, .int t0), (0, false, va_rf a0), (2, false, .int a2), (3, false, va_rf a3), (4, false, .int a4), (5, false, .int a5), (6, false, va_rf a6)]) C dX9_bounds_105 (by decide) rfl ?_
  refine v_iload (pc := 107) (j := 0) C dX9_bounds_107 rfl ?_
  refine v_if_eq (pc := 109) (tgt := 162) C dX9_bounds_109 rfl (fun hc => ?_) (fun hc => ?_)
  · rw [if_pos hc] at hf
    exact V.sub [1, 2, 3, 4, 5] rfl (vX9_bounds_p162 X k18 hf)
  · rw [if_neg hc] at hf
    refine v_aload_n (pc := 112) (j := 1) C dX9_bounds_112 rfl rfl ?_
    refine v_aload (pc := 113) (j := 6) C dX9_bounds_113 rfl ?_
    obtain ⟨b1, eb1, hf⟩ := oB hf
    obtain ⟨rb1, _, kb1⟩ := aIs_eq eb1
    obtain ⟨x2, ex2, hf⟩ := oB hf
    refine v_call (pc := 115) (d_V (pc := 115) C (As := [va_rf a6]) (rest := []) rb1 kb1 nt_8 q1259 yi_X9_isBroken_FigureSurvey_Scene yk_X9_isBroken rfl (by decide) (by decide) (Nat.le_trans aw_0 (by decide)) rfl (mX9_isBroken C.st ex2) dX9_bounds_115) ?_
    refine v_if_ne (pc := 118) (tgt := 162) C dX9_bounds_118 rfl (fun hc => ?_) (fun hc => ?_)
    · rw [if_neg hc] at hf
      exact V.sub [1, 2, 3, 4, 5] rfl (vX9_bounds_p162 X k18 hf)
    · rw [if_pos (Decidable.of_not_not hc)] at hf
      refine v_aload (pc := 121) (j := 6) C dX9_bounds_121 rfl ?_
      obtain ⟨x4, ex4, hf⟩ := oB hf
      refine v_getF (pc := 123) C lk_X9_85 (gI_eq ex4) dX9_bounds_123 ?_
      refine v_iconst (pc := 126) (v := (1 : Int32)) C dX9_bounds_126 rfl ?_
      refine v_icmp_ne (pc := 127) (tgt := 134) C dX9_bounds_127 rfl (fun hc => ?_) (fun hc => ?_)
      · simp only [if_neg hc] at hf
        refine v_iconst (pc := 134) (v := (0 : Int32)) C dX9_bounds_134 rfl ?_
        exact V.sub [1, 2, 3, 4, 5, 6] rfl (vX9_bounds_p135 X k18 hf)
      · simp only [if_pos (Decidable.of_not_not hc)] at hf
        refine v_iconst (pc := 130) (v := (1 : Int32)) C dX9_bounds_130 rfl ?_
        refine v_goto (pc := 131) (tgt := 135) C dX9_bounds_131 rfl ?_
        exact V.sub [1, 2, 3, 4, 5, 6] rfl (vX9_bounds_p135 X k18 hf)
def fX9_bounds_p18 (D : aD) : Nat → aH → (Option Nat) → Int32 → (Option Nat) → Int32 → Int32 → Option (Option Nat × aH)
  | 0, _, _, _, _, _, _ => none
  | n + 1, h, a0, a2, a3, a4, a5 =>
  (gR h 8 3 a0).bind fun x1 =>
  (aIs h 15 x1).bind fun _ =>
  (fJ2_size D h x1).bind fun x3 =>
  if x3 ≤ a5 then
  (some (a3, h))
  else
  (if a4 < 0 then
  (some (a3, h))
  else
  ((gR h 8 3 a0).bind fun x5 =>
  (aIs h 15 x5).bind fun _ =>
  (fJ2_get D h x5 a5).bind fun x7 =>
  (aCast h [7] x7).bind fun _ =>
  (gR h 7 2 x7).bind fun x10 =>
  (aIs h 8 a0).bind fun _ =>
  (fX9_index D h a0 x10).bind fun x12 =>
  if x12 = a4 then
  (fX9_bounds_p105 D (fX9_bounds_p18 D n) h a0 a2 a3 a4 a5 x7 (1 : Int32))
  else
  (if a2 = 0 then
  ((gR h 8 5 a0).bind fun x14 =>
  (eR h x14 a4).bind fun x15 =>
  (eZ h x15 x12).bind fun x16 =>
  fX9_bounds_p105 D (fX9_bounds_p18 D n) h a0 a2 a3 a4 a5 x7 (if x16 = 0 then (0 : Int32) else (1 : Int32)))
  else
  ((gR h 8 5 a0).bind fun x17 =>
  (eR h x17 x12).bind fun x18 =>
  (eZ h x18 a4).bind fun x19 =>
  fX9_bounds_p105 D (fX9_bounds_p18 D n) h a0 a2 a3 a4 a5 x7 (if x19 = 0 then (0 : Int32) else (1 : Int32))))))
theorem vX9_bounds_p18 (X : aX p l R s m meth c D n0 s0 yX9_bounds cX9_bounds 22 3364 10 (some (.object "java/util/TreeSet")) h0) : ∀ (n : Nat) (h : aH) (a0 : Option Nat) (a2 : Int32) (a3 : Option Nat) (a4 : Int32) (a5 : Int32) (q : Option Nat) (g : aH), fX9_bounds_p18 D n h a0 a2 a3 a4 a5 = some (q, g) → V p l e R s m args below meth c D n0 s0 (aEnd D below args s h0 (.inr (some (va_rf q)), g)) h 18 [(0, false, va_rf a0), (2, false, .int a2), (3, false, va_rf a3), (4, false, .int a4), (5, false, .int a5)] [] := by
  have C := X.1
  intro n
  induction n with
  | zero =>
    intro _ _ _ _ _ _ _ _ hf
    rw [fX9_bounds_p18] at hf
    cases hf
  | succ n ih =>
    intro h a0 a2 a3 a4 a5 q g hf
    rw [fX9_bounds_p18] at hf
    refine v_iload (pc := 18) (j := 4) C dX9_bounds_18 rfl ?_
    refine v_aload_n (pc := 20) (j := 0) C dX9_bounds_20 rfl rfl ?_
    obtain ⟨x1, ex1, hf⟩ := oB hf
    refine v_getF (pc := 21) C lk_X9_25 (gR_eq ex1) dX9_bounds_21 ?_
    obtain ⟨b2, eb2, hf⟩ := oB hf
    obtain ⟨rb2, _, kb2⟩ := aIs_eq eb2
    obtain ⟨x3, ex3, hf⟩ := oB hf
    refine v_call (pc := 24) (d_V (pc := 24) C (As := []) (rest := [.int a5]) rb2 kb2 nt_15 q870 yi_J2_size_java_util_ArrayList yk_J2_size rfl (by decide) (by decide) (Nat.le_trans (aw_i aw_0) (by decide)) rfl (mJ2_size C.st ex3) dX9_bounds_24) ?_
    refine v_icmp_ge (pc := 27) (tgt := 168) C dX9_bounds_27 rfl (fun hc => ?_) (fun hc => ?_)
    · rw [if_pos hc] at hf
      refine v_aload_n (pc := 168) (j := 2) C dX9_bounds_168 rfl rfl ?_
      cases hf
      exact v_areturn (pc := 169) C X.2.1 X.2.2.1 X.2.2.2.1 (Or.inl ⟨_, rfl⟩) rfl dX9_bounds_169
    · rw [if_neg hc] at hf
      refine v_iload (pc := 30) (j := 3) C dX9_bounds_30 rfl ?_
      refine v_if_lt (pc := 32) (tgt := 168) C dX9_bounds_32 rfl (fun hc => ?_) (fun hc => ?_)
      · rw [if_pos hc] at hf
        refine v_aload_n (pc := 168) (j := 2) C dX9_bounds_168 rfl rfl ?_
        cases hf
        exact v_areturn (pc := 169) C X.2.1 X.2.2.1 X.2.2.2.1 (Or.inl ⟨_, rfl⟩) rfl dX9_bounds_169
      · rw [if_neg hc] at hf
        refine v_aload_n (pc := 35) (j := 0) C dX9_bounds_35 rfl rfl ?_
        obtain ⟨x5, ex5, hf⟩ := oB hf
        refine v_getF (pc := 36) C lk_X9_25 (gR_eq ex5) dX9_bounds_36 ?_
        refine v_iload (pc := 39) (j := 4) C dX9_bounds_39 rfl ?_
        obtain ⟨b6, eb6, hf⟩ := oB hf
        obtain ⟨rb6, _, kb6⟩ := aIs_eq eb6
        obtain ⟨x7, ex7, hf⟩ := oB hf
        refine v_call (pc := 41) (d_V (pc := 41) C (As := [.int a5]) (rest := []) rb6 kb6 nt_15 q871 yi_J2_get_java_util_ArrayList yk_J2_get rfl (by decide) (by decide) (Nat.le_trans aw_0 (by decide)) rfl (mJ2_get C.st ex7) dX9_bounds_41) ?_
        obtain ⟨_, e9, hf⟩ := oB hf
        refine v_cast (pc := 44) C q1179 ct_FigureSurvey_Finding e9 dX9_bounds_44 ?_
        refine v_astore (pc := 47) (lv' := [(6, false, va_rf x7), (0, false, va_rf a0), (2, false, .int a2), (3, false, va_rf a3), (4, false, .int a4), (5, false, .int a5)]) C dX9_bounds_47 (by decide) rfl ?_
        refine v_aload_n (pc := 49) (j := 1) C dX9_bounds_49 rfl rfl ?_
        refine v_aload (pc := 50) (j := 0) C dX9_bounds_50 rfl ?_
        obtain ⟨x10, ex10, hf⟩ := oB hf
        refine v_getF (pc := 52) C lk_X9_109 (gR_eq ex10) dX9_bounds_52 ?_
        obtain ⟨b11, eb11, hf⟩ := oB hf
        obtain ⟨rb11, _, kb11⟩ := aIs_eq eb11
        obtain ⟨x12, ex12, hf⟩ := oB hf
        refine v_call (pc := 55) (d_V (pc := 55) C (As := [va_rf x10]) (rest := []) rb11 kb11 nt_8 q1188 yi_X9_index_FigureSurvey_Scene yk_X9_index rfl (by decide) (by decide) (Nat.le_trans aw_0 (by decide)) rfl (mX9_index C.st ex12) dX9_bounds_55) ?_
        refine v_istore (pc := 58) (lv' := [(7, false, .int x12), (6, false, va_rf x7), (0, false, va_rf a0), (2, false, .int a2), (3, false, va_rf a3), (4, false, .int a4), (5, false, .int a5)]) C dX9_bounds_58 (by decide) rfl ?_
        refine v_iload (pc := 60) (j := 0) C dX9_bounds_60 rfl ?_
        refine v_iload (pc := 62) (j := 5) C dX9_bounds_62 rfl ?_
        refine v_icmp_eq (pc := 64) (tgt := 100) C dX9_bounds_64 rfl (fun hc => ?_) (fun hc => ?_)
        · rw [if_pos hc] at hf
          refine v_iconst (pc := 100) (v := (1 : Int32)) C dX9_bounds_100 rfl ?_
          refine v_goto (pc := 101) (tgt := 105) C dX9_bounds_101 rfl ?_
          exact V.sub [2, 3, 4, 5, 6, 1] rfl (vX9_bounds_p105 X ih hf)
        · rw [if_neg hc] at hf
          refine v_iload_n (pc := 67) (j := 3) C dX9_bounds_67 rfl rfl ?_
          refine v_if_eq (pc := 68) (tgt := 87) C dX9_bounds_68 rfl (fun hc => ?_) (fun hc => ?_)
          · rw [if_pos hc] at hf
            refine v_aload_n (pc := 87) (j := 2) C dX9_bounds_87 rfl rfl ?_
            obtain ⟨x14, ex14, hf⟩ := oB hf
            refine v_getF (pc := 88) C lk_X9_103 (gR_eq ex14) dX9_bounds_88 ?_
            refine v_iload (pc := 91) (j := 5) C dX9_bounds_91 rfl ?_
            obtain ⟨x15, ex15, hf⟩ := oB hf
            refine v_aaload (pc := 93) C ex15 dX9_bounds_93 ?_
            refine v_iload (pc := 94) (j := 0) C dX9_bounds_94 rfl ?_
            obtain ⟨x16, ex16, hf⟩ := oB hf
            refine v_baload (pc := 96) C ex16 dX9_bounds_96 ?_
            refine v_if_eq (pc := 97) (tgt := 104) C dX9_bounds_97 rfl (fun hc => ?_) (fun hc => ?_)
            · simp only [if_pos hc] at hf
              refine v_iconst (pc := 104) (v := (0 : Int32)) C dX9_bounds_104 rfl ?_
              exact V.sub [2, 3, 4, 5, 6, 1] rfl (vX9_bounds_p105 X ih hf)
            · simp only [if_neg hc] at hf
              refine v_iconst (pc := 100) (v := (1 : Int32)) C dX9_bounds_100 rfl ?_
              refine v_goto (pc := 101) (tgt := 105) C dX9_bounds_101 rfl ?_
              exact V.sub [2, 3, 4, 5, 6, 1] rfl (vX9_bounds_p105 X ih hf)
          · rw [if_neg hc] at hf
            refine v_aload_n (pc := 71) (j := 2) C dX9_bounds_71 rfl rfl ?_
            obtain ⟨x17, ex17, hf⟩ := oB hf
            refine v_getF (pc := 72) C lk_X9_103 (gR_eq ex17) dX9_bounds_72 ?_
            refine v_iload (pc := 75) (j := 0) C dX9_bounds_75 rfl ?_
            obtain ⟨x18, ex18, hf⟩ := oB hf
            refine v_aaload (pc := 77) C ex18 dX9_bounds_77 ?_
            refine v_iload (pc := 78) (j := 5) C dX9_bounds_78 rfl ?_
            obtain ⟨x19, ex19, hf⟩ := oB hf
            refine v_baload (pc := 80) C ex19 dX9_bounds_80 ?_
            refine v_if_eq (pc := 81) (tgt := 104) C dX9_bounds_81 rfl (fun hc => ?_) (fun hc => ?_)
            · simp only [if_pos hc] at hf
              refine v_iconst (pc := 104) (v := (0 : Int32)) C dX9_bounds_104 rfl ?_
              exact V.sub [2, 3, 4, 5, 6, 1] rfl (vX9_bounds_p105 X ih hf)
            · simp only [if_neg hc] at hf
              refine v_goto (pc := 84) (tgt := 100) C dX9_bounds_84 rfl ?_
              refine v_iconst (pc := 100) (v := (1 : Int32)) C dX9_bounds_100 rfl ?_
              refine v_goto (pc := 101) (tgt := 105) C dX9_bounds_101 rfl ?_
              exact V.sub [2, 3, 4, 5, 6, 1] rfl (vX9_bounds_p105 X ih hf)
def fX9_bounds (D : aD) (h : aH) (a0 : Option Nat) (a1 : Option Nat) (a2 : Int32) : Option (Option Nat × aH) :=
  (aMk D h (18, dfJ35)).bind fun h1 =>
  (fJ35_init D h1 (some h.1)).bind fun h4 =>
  (aIs h4 8 a0).bind fun _ =>
  (fX9_index D h4 a0 a1).bind fun x6 =>
  fX9_bounds_p18 D FU h4 a0 a2 (some h.1) x6 (0 : Int32)
theorem vX9_bounds {h : aH} {a0 : Option Nat} {a1 : Option Nat} {a2 : Int32} {q : Option Nat} {g : aH} (X : aX p l R s m meth c D n0 s0 yX9_bounds cX9_bounds 22 3364 10 (some (.object "java/util/TreeSet")) h0) (hf : fX9_bounds D h a0 a1 a2 = some (q, g)) : V p l e R s m args below meth c D n0 s0 (aEnd D below args s h0 (.inr (some (va_rf q)), g)) h 0 [(0, false, va_rf a0), (1, false, va_rf a1), (2, false, .int a2)] [] := by
  have C := X.1
  unfold fX9_bounds at hf
  obtain ⟨h1, eh1, hf⟩ := oB hf
  refine v_new (pc := 0) (t := 18) (fs := dfJ35) (T := TJ35) (N := 1) C rfl in_J35 tyJ35 tyJ35_ok q1361 q1362 q122 dfJ35_ok rfl eh1 dX9_bounds_0 ?_
  refine v_dup (pc := 3) C dX9_bounds_3 (va_rfc _) ?_
  obtain ⟨h4, ex3, hf⟩ := oB hf
  refine v_callU (pc := 4) (d_I (pc := 4) C (As := []) (rest := [va_rf (some h.1)]) rfl rfl rfl q1363 q1364 yk_J35_init rfl (by decide) (by decide) (Nat.le_trans (aw_r aw_0) (by decide)) rfl (mJ35_init C.st ex3) dX9_bounds_4) ?_
  refine v_astore_n (pc := 7) (lv' := [(3, false, va_rf (some h.1)), (0, false, va_rf a0), (1, false, va_rf a1), (2, false, .int a2)]) C dX9_bounds_7 rfl (by decide) rfl ?_
  refine v_aload_n (pc := 8) (j := 1) C dX9_bounds_8 rfl rfl ?_
  refine v_aload_n (pc := 9) (j := 2) C dX9_bounds_9 rfl rfl ?_
  obtain ⟨b5, eb5, hf⟩ := oB hf
  obtain ⟨rb5, _, kb5⟩ := aIs_eq eb5
  obtain ⟨x6, ex6, hf⟩ := oB hf
  refine v_call (pc := 10) (d_V (pc := 10) C (As := [va_rf a1]) (rest := []) rb5 kb5 nt_8 q1188 yi_X9_index_FigureSurvey_Scene yk_X9_index rfl (by decide) (by decide) (Nat.le_trans aw_0 (by decide)) rfl (mX9_index C.st ex6) dX9_bounds_10) ?_
  refine v_istore (pc := 13) (lv' := [(4, false, .int x6), (3, false, va_rf (some h.1)), (0, false, va_rf a0), (1, false, va_rf a1), (2, false, .int a2)]) C dX9_bounds_13 (by decide) rfl ?_
  refine v_iconst (pc := 15) (v := (0 : Int32)) C dX9_bounds_15 rfl ?_
  refine v_istore (pc := 16) (lv' := [(5, false, .int (0 : Int32)), (4, false, .int x6), (3, false, va_rf (some h.1)), (0, false, va_rf a0), (1, false, va_rf a1), (2, false, .int a2)]) C dX9_bounds_16 (by decide) rfl ?_
  exact V.sub [3, 5, 2, 1, 0] rfl (vX9_bounds_p18 X _ _ _ _ _ _ _ _ _ hf)
theorem mX9_bounds {l : Launch} {D : aD} {h : aH} {a0 : Option Nat} {a1 : Option Nat} {a2 : Int32} {q : Option Nat} {g : aH} (hst : l.stackTraces = false) (hf : fX9_bounds D h a0 a1 a2 = some (q, g)) : aM l D yX9_bounds cX9_bounds 10 (some (.object "java/util/TreeSet")) 22 3364 [va_rf a0, va_rf a1, .int a2] h (.inr (some (va_rf q)), g) :=
  aM.ofX [(false, va_rf a0), (false, va_rf a1), (false, .int a2)] rfl (ap_r (ap_r (ap_c rfl ap_0))) (by decide +kernel) hst (al_of (aw_r (aw_r (aw_i aw_0))) (by decide)) fun p e s m args below meth c X => V.sub (lv' := [(0, false, va_rf a0), (1, false, va_rf a1), (2, false, .int a2)]) [0, 1, 2] rfl (vX9_bounds X hf)
def fJ4_getCeilingEntry_p68 (D : aD) : Nat → aH → (Option Nat) → (Option Nat) → Option (Option Nat × aH)
  | 0, _, _, _ => none
  | n + 1, h, a4, a5 =>
  if a4 = none then
  (some (a4, h))
  else
  ((gR h 17 3 a4).bind fun x1 =>
  if a5 = x1 then
  ((gR h 17 4 a4).bind fun x2 =>
  fJ4_getCeilingEntry_p68 D n h x2 a4)
  else
  (some (a4, h)))
theorem vJ4_getCeilingEntry_p68 (X : aX p l R s m meth c D n0 s0 yJ4_getCeilingEntry cJ4_getCeilingEntry 18 3270 6 (some (.object "java/util/TreeMap$Entry")) h0) : ∀ (n : Nat) (h : aH) (a4 : Option Nat) (a5 : Option Nat) (q : Option Nat) (g : aH), fJ4_getCeilingEntry_p68 D n h a4 a5 = some (q, g) → V p l e R s m args below meth c D n0 s0 (aEnd D below args s h0 (.inr (some (va_rf q)), g)) h 68 [(4, false, va_rf a4), (5, false, va_rf a5)] [] := by
  have C := X.1
  intro n
  induction n with
  | zero =>
    intro _ _ _ _ _ hf
    rw [fJ4_getCeilingEntry_p68] at hf
    cases hf
  | succ n ih =>
    intro h a4 a5 q g hf
    rw [fJ4_getCeilingEntry_p68] at hf
    refine v_aload (pc := 68) (j := 0) C dJ4_getCeilingEntry_68 rfl ?_
    refine v_ifnull (pc := 70) (tgt := 97) C dJ4_getCeilingEntry_70 rfl (fun hc => ?_) (fun hc => ?_)
    · rw [if_pos hc] at hf
      refine v_aload (pc := 97) (j := 0) C dJ4_getCeilingEntry_97 rfl ?_
      cases hf
      exact v_areturn (pc := 99) C X.2.1 X.2.2.1 X.2.2.2.1 (Or.inl ⟨_, rfl⟩) rfl dJ4_getCeilingEntry_99
    · rw [if_neg hc] at hf
      refine v_aload (pc := 73) (j := 1) C dJ4_getCeilingEntry_73 rfl ?_
      refine v_aload (pc := 75) (j := 0) C dJ4_getCeilingEntry_75 rfl ?_
      obtain ⟨x1, ex1, hf⟩ := oB hf
      refine v_getF (pc := 77) C lk_J4_114 (gR_eq ex1) dJ4_getCeilingEntry_77 ?_
      refine v_acmp_ne (pc := 80) (tgt := 97) C dJ4_getCeilingEntry_80 rfl (fun hc => ?_) (fun hc => ?_)
      · rw [if_neg hc] at hf
        refine v_aload (pc := 97) (j := 0) C dJ4_getCeilingEntry_97 rfl ?_
        cases hf
        exact v_areturn (pc := 99) C X.2.1 X.2.2.1 X.2.2.2.1 (Or.inl ⟨_, rfl⟩) rfl dJ4_getCeilingEntry_99
      · rw [if_pos (Decidable.of_not_not hc)] at hf
        refine v_aload (pc := 83) (j := 0) C dJ4_getCeilingEntry_83 rfl ?_
        refine v_astore (pc := 85) (lv' := [(5, false, va_rf a4), (4, false, va_rf a4)]) C dJ4_getCeilingEntry_85 (by decide) rfl ?_
        refine v_aload (pc := 87) (j := 1) C dJ4_getCeilingEntry_87 rfl ?_
        obtain ⟨x2, ex2, hf⟩ := oB hf
        refine v_getF (pc := 89) C lk_J4_124 (gR_eq ex2) dJ4_getCeilingEntry_89 ?_
        refine v_astore (pc := 92) (lv' := [(4, false, va_rf x2), (5, false, va_rf a4)]) C dJ4_getCeilingEntry_92 (by decide) rfl ?_
        refine v_goto (pc := 94) (tgt := 68) C dJ4_getCeilingEntry_94 rfl ?_
        exact V.sub [0, 1] rfl (ih _ _ _ _ _ hf)
def fJ4_getCeilingEntry_p59 (D : aD) (h : aH) (a2 : Option Nat) : Option (Option Nat × aH) :=
  (gR h 17 4 a2).bind fun x1 =>
  fJ4_getCeilingEntry_p68 D FU h x1 a2
theorem vJ4_getCeilingEntry_p59 {h : aH} {a2 : Option Nat} {q : Option Nat} {g : aH} (X : aX p l R s m meth c D n0 s0 yJ4_getCeilingEntry cJ4_getCeilingEntry 18 3270 6 (some (.object "java/util/TreeMap$Entry")) h0) (hf : fJ4_getCeilingEntry_p59 D h a2 = some (q, g)) : V p l e R s m args below meth c D n0 s0 (aEnd D below args s h0 (.inr (some (va_rf q)), g)) h 59 [(2, false, va_rf a2)] [] := by
  have C := X.1
  unfold fJ4_getCeilingEntry_p59 at hf
  refine v_aload_n (pc := 59) (j := 0) C dJ4_getCeilingEntry_59 rfl rfl ?_
  obtain ⟨x1, ex1, hf⟩ := oB hf
  refine v_getF (pc := 60) C lk_J4_124 (gR_eq ex1) dJ4_getCeilingEntry_60 ?_
  refine v_astore (pc := 63) (lv' := [(4, false, va_rf x1), (2, false, va_rf a2)]) C dJ4_getCeilingEntry_63 (by decide) rfl ?_
  refine v_aload_n (pc := 65) (j := 1) C dJ4_getCeilingEntry_65 rfl rfl ?_
  refine v_astore (pc := 66) (lv' := [(5, false, va_rf a2), (4, false, va_rf x1), (2, false, va_rf a2)]) C dJ4_getCeilingEntry_66 (by decide) rfl ?_
  exact V.sub [1, 0] rfl (vJ4_getCeilingEntry_p68 X _ _ _ _ _ _ hf)
def fJ4_getCeilingEntry_p5 (D : aD) : Nat → aH → (Option Nat) → (Option Nat) → (Option Nat) → Option (Option Nat × aH)
  | 0, _, _, _, _ => none
  | n + 1, h, a0, a1, a2 =>
  if a2 = none then
  (some (none, h))
  else
  ((gR h 17 0 a2).bind fun x1 =>
  (aIs h 16 a0).bind fun _ =>
  bnd2 (fJ4_compare D h a0 a1 x1) fun x3 h4 =>
  if 0 ≤ x3 then
  (if x3 ≤ 0 then
  (some (a2, h4))
  else
  ((gR h4 17 3 a2).bind fun x5 =>
  if x5 = none then
  (fJ4_getCeilingEntry_p59 D h4 a2)
  else
  ((gR h4 17 3 a2).bind fun x6 =>
  fJ4_getCeilingEntry_p5 D n h4 a0 a1 x6)))
  else
  ((gR h4 17 2 a2).bind fun x7 =>
  if x7 = none then
  (some (a2, h4))
  else
  ((gR h4 17 2 a2).bind fun x8 =>
  fJ4_getCeilingEntry_p5 D n h4 a0 a1 x8)))
theorem vJ4_getCeilingEntry_p5 (X : aX p l R s m meth c D n0 s0 yJ4_getCeilingEntry cJ4_getCeilingEntry 18 3270 6 (some (.object "java/util/TreeMap$Entry")) h0) : ∀ (n : Nat) (h : aH) (a0 : Option Nat) (a1 : Option Nat) (a2 : Option Nat) (q : Option Nat) (g : aH), fJ4_getCeilingEntry_p5 D n h a0 a1 a2 = some (q, g) → V p l e R s m args below meth c D n0 s0 (aEnd D below args s h0 (.inr (some (va_rf q)), g)) h 5 [(0, false, va_rf a0), (1, false, va_rf a1), (2, false, va_rf a2)] [] := by
  have C := X.1
  intro n
  induction n with
  | zero =>
    intro _ _ _ _ _ _ hf
    rw [fJ4_getCeilingEntry_p5] at hf
    cases hf
  | succ n ih =>
    intro h a0 a1 a2 q g hf
    rw [fJ4_getCeilingEntry_p5] at hf
    refine v_aload_n (pc := 5) (j := 2) C dJ4_getCeilingEntry_5 rfl rfl ?_
    refine v_ifnull (pc := 6) (tgt := 105) C dJ4_getCeilingEntry_6 rfl (fun hc => ?_) (fun hc => ?_)
    · rw [if_pos hc] at hf
      refine v_null (pc := 105) C dJ4_getCeilingEntry_105 ?_
      cases hf
      exact v_areturn (pc := 106) C X.2.1 X.2.2.1 X.2.2.2.1 (Or.inl ⟨_, rfl⟩) rfl dJ4_getCeilingEntry_106
    · rw [if_neg hc] at hf
      refine v_aload_n (pc := 9) (j := 0) C dJ4_getCeilingEntry_9 rfl rfl ?_
      refine v_aload_n (pc := 10) (j := 1) C dJ4_getCeilingEntry_10 rfl rfl ?_
      refine v_aload_n (pc := 11) (j := 2) C dJ4_getCeilingEntry_11 rfl rfl ?_
      obtain ⟨x1, ex1, hf⟩ := oB hf
      refine v_getF (pc := 12) C lk_J4_105 (gR_eq ex1) dJ4_getCeilingEntry_12 ?_
      obtain ⟨b2, eb2, hf⟩ := oB hf
      obtain ⟨rb2, _, kb2⟩ := aIs_eq eb2
      obtain ⟨x3, h4, ex3, hf⟩ := bnd2_eq hf
      refine v_call (pc := 15) (d_V (pc := 15) C (As := [va_rf a1, va_rf x1]) (rest := []) rb2 kb2 nt_16 q1413 yi_J4_compare_java_util_TreeMap yk_J4_compare rfl (by decide) (by decide) (Nat.le_trans aw_0 (by decide)) rfl (mJ4_compare C.st ex3) dJ4_getCeilingEntry_15) ?_
      refine v_istore_n (pc := 18) (lv' := [(3, false, .int x3), (0, false, va_rf a0), (1, false, va_rf a1), (2, false, va_rf a2)]) C dJ4_getCeilingEntry_18 rfl (by decide) rfl ?_
      refine v_iload_n (pc := 19) (j := 0) C dJ4_getCeilingEntry_19 rfl rfl ?_
      refine v_if_ge (pc := 20) (tgt := 40) C dJ4_getCeilingEntry_20 rfl (fun hc => ?_) (fun hc => ?_)
      · rw [if_pos hc] at hf
        refine v_iload_n (pc := 40) (j := 0) C dJ4_getCeilingEntry_40 rfl rfl ?_
        refine v_if_le (pc := 41) (tgt := 100) C dJ4_getCeilingEntry_41 rfl (fun hc => ?_) (fun hc => ?_)
        · rw [if_pos hc] at hf
          refine v_aload_n (pc := 100) (j := 3) C dJ4_getCeilingEntry_100 rfl rfl ?_
          cases hf
          exact v_areturn (pc := 101) C X.2.1 X.2.2.1 X.2.2.2.1 (Or.inl ⟨_, rfl⟩) rfl dJ4_getCeilingEntry_101
        · rw [if_neg hc] at hf
          refine v_aload_n (pc := 44) (j := 3) C dJ4_getCeilingEntry_44 rfl rfl ?_
          obtain ⟨x5, ex5, hf⟩ := oB hf
          refine v_getF (pc := 45) C lk_J4_114 (gR_eq ex5) dJ4_getCeilingEntry_45 ?_
          refine v_ifnull (pc := 48) (tgt := 59) C dJ4_getCeilingEntry_48 rfl (fun hc => ?_) (fun hc => ?_)
          · rw [if_pos hc] at hf
            exact V.sub [3] rfl (vJ4_getCeilingEntry_p59 X hf)
          · rw [if_neg hc] at hf
            refine v_aload_n (pc := 51) (j := 3) C dJ4_getCeilingEntry_51 rfl rfl ?_
            obtain ⟨x6, ex6, hf⟩ := oB hf
            refine v_getF (pc := 52) C lk_J4_114 (gR_eq ex6) dJ4_getCeilingEntry_52 ?_
            refine v_astore_n (pc := 55) (lv' := [(2, false, va_rf x6), (3, false, .int x3), (0, false, va_rf a0), (1, false, va_rf a1)]) C dJ4_getCeilingEntry_55 rfl (by decide) rfl ?_
            refine v_goto (pc := 56) (tgt := 102) C dJ4_getCeilingEntry_56 rfl ?_
            refine v_goto (pc := 102) (tgt := 5) C dJ4_getCeilingEntry_102 rfl ?_
            exact V.sub [2, 3, 0] rfl (ih _ _ _ _ _ _ hf)
      · rw [if_neg hc] at hf
        refine v_aload_n (pc := 23) (j := 3) C dJ4_getCeilingEntry_23 rfl rfl ?_
        obtain ⟨x7, ex7, hf⟩ := oB hf
        refine v_getF (pc := 24) C lk_J4_111 (gR_eq ex7) dJ4_getCeilingEntry_24 ?_
        refine v_ifnull (pc := 27) (tgt := 38) C dJ4_getCeilingEntry_27 rfl (fun hc => ?_) (fun hc => ?_)
        · rw [if_pos hc] at hf
          refine v_aload_n (pc := 38) (j := 3) C dJ4_getCeilingEntry_38 rfl rfl ?_
          cases hf
          exact v_areturn (pc := 39) C X.2.1 X.2.2.1 X.2.2.2.1 (Or.inl ⟨_, rfl⟩) rfl dJ4_getCeilingEntry_39
        · rw [if_neg hc] at hf
          refine v_aload_n (pc := 30) (j := 3) C dJ4_getCeilingEntry_30 rfl rfl ?_
          obtain ⟨x8, ex8, hf⟩ := oB hf
          refine v_getF (pc := 31) C lk_J4_111 (gR_eq ex8) dJ4_getCeilingEntry_31 ?_
          refine v_astore_n (pc := 34) (lv' := [(2, false, va_rf x8), (3, false, .int x3), (0, false, va_rf a0), (1, false, va_rf a1)]) C dJ4_getCeilingEntry_34 rfl (by decide) rfl ?_
          refine v_goto (pc := 35) (tgt := 102) C dJ4_getCeilingEntry_35 rfl ?_
          refine v_goto (pc := 102) (tgt := 5) C dJ4_getCeilingEntry_102 rfl ?_
          exact V.sub [2, 3, 0] rfl (ih _ _ _ _ _ _ hf)
def fJ4_getCeilingEntry (D : aD) (h : aH) (a0 : Option Nat) (a1 : Option Nat) : Option (Option Nat × aH) :=
  (gR h 16 3 a0).bind fun x1 =>
  fJ4_getCeilingEntry_p5 D FU h a0 a1 x1
theorem vJ4_getCeilingEntry {h : aH} {a0 : Option Nat} {a1 : Option Nat} {q : Option Nat} {g : aH} (X : aX p l R s m meth c D n0 s0 yJ4_getCeilingEntry cJ4_getCeilingEntry 18 3270 6 (some (.object "java/util/TreeMap$Entry")) h0) (hf : fJ4_getCeilingEntry D h a0 a1 = some (q, g)) : V p l e R s m args below meth c D n0 s0 (aEnd D below args s h0 (.inr (some (va_rf q)), g)) h 0 [(0, false, va_rf a0), (1, false, va_rf a1)] [] := by
  have C := X.1
  unfold fJ4_getCeilingEntry at hf
  refine v_aload_n (pc := 0) (j := 0) C dJ4_getCeilingEntry_0 rfl rfl ?_
  obtain ⟨x1, ex1, hf⟩ := oB hf
  refine v_getF (pc := 1) C lk_J4_101 (gR_eq ex1) dJ4_getCeilingEntry_1 ?_
  refine v_astore_n (pc := 4) (lv' := [(2, false, va_rf x1), (0, false, va_rf a0), (1, false, va_rf a1)]) C dJ4_getCeilingEntry_4 rfl (by decide) rfl ?_
  exact V.sub [1, 2, 0] rfl (vJ4_getCeilingEntry_p5 X _ _ _ _ _ _ _ hf)
theorem mJ4_getCeilingEntry {l : Launch} {D : aD} {h : aH} {a0 : Option Nat} {a1 : Option Nat} {q : Option Nat} {g : aH} (hst : l.stackTraces = false) (hf : fJ4_getCeilingEntry D h a0 a1 = some (q, g)) : aM l D yJ4_getCeilingEntry cJ4_getCeilingEntry 6 (some (.object "java/util/TreeMap$Entry")) 18 3270 [va_rf a0, va_rf a1] h (.inr (some (va_rf q)), g) :=
  aM.ofX [(false, va_rf a0), (false, va_rf a1)] rfl (ap_r (ap_r ap_0)) (by decide +kernel) hst (al_of (aw_r (aw_r aw_0)) (by decide)) fun p e s m args below meth c X => V.sub (lv' := [(0, false, va_rf a0), (1, false, va_rf a1)]) [0, 1] rfl (vJ4_getCeilingEntry X hf)
def fJ4_ceilingKey (D : aD) (h : aH) (a0 : Option Nat) (a1 : Option Nat) : Option (Option Nat × aH) :=
  (aIs h 16 a0).bind fun _ =>
  bnd2 (fJ4_getCeilingEntry D h a0 a1) fun x2 h3 =>
  (fJ4_keyOrNull D h3 x2).bind fun x5 =>
  some (x5, h3)
theorem vJ4_ceilingKey {h : aH} {a0 : Option Nat} {a1 : Option Nat} {q : Option Nat} {g : aH} (X : aX p l R s m meth c D n0 s0 yJ4_ceilingKey cJ4_ceilingKey 19 3295 2 (some (.object "java/lang/Object")) h0) (hf : fJ4_ceilingKey D h a0 a1 = some (q, g)) : V p l e R s m args below meth c D n0 s0 (aEnd D below args s h0 (.inr (some (va_rf q)), g)) h 0 [(0, false, va_rf a0), (1, false, va_rf a1)] [] := by
  have C := X.1
  unfold fJ4_ceilingKey at hf
  refine v_aload_n (pc := 0) (j := 0) C dJ4_ceilingKey_0 rfl rfl ?_
  refine v_aload_n (pc := 1) (j := 1) C dJ4_ceilingKey_1 rfl rfl ?_
  obtain ⟨b1, eb1, hf⟩ := oB hf
  obtain ⟨rb1, _, kb1⟩ := aIs_eq eb1
  obtain ⟨x2, h3, ex2, hf⟩ := bnd2_eq hf
  refine v_call (pc := 2) (d_V (pc := 2) C (As := [va_rf a1]) (rest := []) rb1 kb1 nt_16 q1548 yi_J4_getCeilingEntry_java_util_TreeMap yk_J4_getCeilingEntry rfl (by decide) (by decide) (Nat.le_trans aw_0 (by decide)) rfl (mJ4_getCeilingEntry C.st ex2) dJ4_ceilingKey_2) ?_
  obtain ⟨x5, ex5, hf⟩ := oB hf
  refine v_call (pc := 5) (d_S (pc := 5) C (As := [va_rf x2]) (rest := []) q1552 q1553 yk_J4_keyOrNull rfl (by decide) (by decide) (Nat.le_trans aw_0 (by decide)) rfl (mJ4_keyOrNull C.st ex5) dJ4_ceilingKey_5) ?_
  cases hf
  exact v_areturn (pc := 8) C X.2.1 X.2.2.1 X.2.2.2.1 (Or.inl ⟨_, rfl⟩) rfl dJ4_ceilingKey_8
theorem mJ4_ceilingKey {l : Launch} {D : aD} {h : aH} {a0 : Option Nat} {a1 : Option Nat} {q : Option Nat} {g : aH} (hst : l.stackTraces = false) (hf : fJ4_ceilingKey D h a0 a1 = some (q, g)) : aM l D yJ4_ceilingKey cJ4_ceilingKey 2 (some (.object "java/lang/Object")) 19 3295 [va_rf a0, va_rf a1] h (.inr (some (va_rf q)), g) :=
  aM.ofX [(false, va_rf a0), (false, va_rf a1)] rfl (ap_r (ap_r ap_0)) (by decide +kernel) hst (al_of (aw_r (aw_r aw_0)) (by decide)) fun p e s m args below meth c X => V.sub (lv' := [(0, false, va_rf a0), (1, false, va_rf a1)]) [0, 1] rfl (vJ4_ceilingKey X hf)
def fJ35_ceiling (D : aD) (h : aH) (a0 : Option Nat) (a1 : Option Nat) : Option (Option Nat × aH) :=
  (gR h 18 0 a0).bind fun x1 =>
  (aIs h 16 x1).bind fun _ =>
  bnd2 (fJ4_ceilingKey D h x1 a1) fun x3 h4 =>
  some (x3, h4)
theorem vJ35_ceiling {h : aH} {a0 : Option Nat} {a1 : Option Nat} {q : Option Nat} {g : aH} (X : aX p l R s m meth c D n0 s0 yJ35_ceiling cJ35_ceiling 20 3316 2 (some (.object "java/lang/Object")) h0) (hf : fJ35_ceiling D h a0 a1 = some (q, g)) : V p l e R s m args below meth c D n0 s0 (aEnd D below args s h0 (.inr (some (va_rf q)), g)) h 0 [(0, false, va_rf a0), (1, false, va_rf a1)] [] := by
  have C := X.1
  unfold fJ35_ceiling at hf
  refine v_aload_n (pc := 0) (j := 0) C dJ35_ceiling_0 rfl rfl ?_
  obtain ⟨x1, ex1, hf⟩ := oB hf
  refine v_getF (pc := 1) C lk_J35_7 (gR_eq ex1) dJ35_ceiling_1 ?_
  refine v_aload_n (pc := 4) (j := 1) C dJ35_ceiling_4 rfl rfl ?_
  obtain ⟨b2, eb2, hf⟩ := oB hf
  obtain ⟨rb2, _, kb2⟩ := aIs_eq eb2
  obtain ⟨x3, h4, ex3, hf⟩ := bnd2_eq hf
  refine v_call (pc := 5) (d_F (pc := 5) C (As := [va_rf a1]) (rest := []) rb2 kb2 nt_16 q1540 q1542 ⟨q1541, ⟨by decide +kernel, by decide +kernel⟩⟩ q1543 q1545 q1546 q1544 q833 (by decide +kernel) yk_J4_ceilingKey rfl (by decide) (by decide) (Nat.le_trans aw_0 (by decide)) rfl (mJ4_ceilingKey C.st ex3) dJ35_ceiling_5) ?_
  cases hf
  exact v_areturn (pc := 10) C X.2.1 X.2.2.1 X.2.2.2.1 (Or.inl ⟨_, rfl⟩) rfl dJ35_ceiling_10
theorem mJ35_ceiling {l : Launch} {D : aD} {h : aH} {a0 : Option Nat} {a1 : Option Nat} {q : Option Nat} {g : aH} (hst : l.stackTraces = false) (hf : fJ35_ceiling D h a0 a1 = some (q, g)) : aM l D yJ35_ceiling cJ35_ceiling 2 (some (.object "java/lang/Object")) 20 3316 [va_rf a0, va_rf a1] h (.inr (some (va_rf q)), g) :=
  aM.ofX [(false, va_rf a0), (false, va_rf a1)] rfl (ap_r (ap_r ap_0)) (by decide +kernel) hst (al_of (aw_r (aw_r aw_0)) (by decide)) fun p e s m args below meth c X => V.sub (lv' := [(0, false, va_rf a0), (1, false, va_rf a1)]) [0, 1] rfl (vJ35_ceiling X hf)
def fX9_bound (D : aD) (h : aH) (a0 : Option Nat) (a1 : Option Nat) (a2 : Int32) : Option (Option Nat × aH) :=
  (aIs h 8 a0).bind fun _ =>
  bnd2 (fX9_bounds D h a0 a1 a2) fun x2 h3 =>
  (aIs h3 18 x2).bind fun _ =>
  (fJ35_isEmpty D h3 x2).bind fun x5 =>
  if x5 = 0 then
  (if a2 = 0 then
  ((aMk D h3 (10, dfX11)).bind fun h7 =>
  (aIs h7 18 x2).bind fun _ =>
  (fJ35_last D h7 x2).bind fun x9 =>
  (aCast h7 [10] x9).bind fun _ =>
  (gI h7 10 0 x9).bind fun x12 =>
  (fX11_init D h7 (some h3.1) x12 (0 : Int32)).bind fun h15 =>
  (aIs h15 18 x2).bind fun _ =>
  bnd2 (fJ35_ceiling D h15 x2 (some h3.1)) fun x17 h18 =>
  (aCast h18 [10] x17).bind fun _ =>
  some (x17, h18))
  else
  ((aIs h3 18 x2).bind fun _ =>
  (fJ35_first D h3 x2).bind fun x21 =>
  (aCast h3 [10] x21).bind fun _ =>
  some (x21, h3)))
  else
  (some (none, h3))
theorem vX9_bound {h : aH} {a0 : Option Nat} {a1 : Option Nat} {a2 : Int32} {q : Option Nat} {g : aH} (X : aX p l R s m meth c D n0 s0 yX9_bound cX9_bound 23 3393 4 (some (.object "FigureSurvey$Bound")) h0) (hf : fX9_bound D h a0 a1 a2 = some (q, g)) : V p l e R s m args below meth c D n0 s0 (aEnd D below args s h0 (.inr (some (va_rf q)), g)) h 0 [(0, false, va_rf a0), (1, false, va_rf a1), (2, false, .int a2)] [] := by
  have C := X.1
  unfold fX9_bound at hf
  refine v_aload_n (pc := 0) (j := 0) C dX9_bound_0 rfl rfl ?_
  refine v_aload_n (pc := 1) (j := 1) C dX9_bound_1 rfl rfl ?_
  refine v_iload_n (pc := 2) (j := 2) C dX9_bound_2 rfl rfl ?_
  obtain ⟨b1, eb1, hf⟩ := oB hf
  obtain ⟨rb1, _, kb1⟩ := aIs_eq eb1
  obtain ⟨x2, h3, ex2, hf⟩ := bnd2_eq hf
  refine v_call (pc := 3) (d_V (pc := 3) C (As := [va_rf a1, .int a2]) (rest := []) rb1 kb1 nt_8 q1357 yi_X9_bounds_FigureSurvey_Scene yk_X9_bounds rfl (by decide) (by decide) (Nat.le_trans aw_0 (by decide)) rfl (mX9_bounds C.st ex2) dX9_bound_3) ?_
  refine v_astore_n (pc := 6) (lv' := [(3, false, va_rf x2), (0, false, va_rf a0), (1, false, va_rf a1), (2, false, .int a2)]) C dX9_bound_6 rfl (by decide) rfl ?_
  refine v_aload_n (pc := 7) (j := 0) C dX9_bound_7 rfl rfl ?_
  obtain ⟨b4, eb4, hf⟩ := oB hf
  obtain ⟨rb4, _, kb4⟩ := aIs_eq eb4
  obtain ⟨x5, ex5, hf⟩ := oB hf
  refine v_call (pc := 8) (d_V (pc := 8) C (As := []) (rest := []) rb4 kb4 nt_18 q1487 yi_J35_isEmpty_java_util_TreeSet yk_J35_isEmpty rfl (by decide) (by decide) (Nat.le_trans aw_0 (by decide)) rfl (mJ35_isEmpty C.st ex5) dX9_bound_8) ?_
  refine v_if_eq (pc := 11) (tgt := 16) C dX9_bound_11 rfl (fun hc => ?_) (fun hc => ?_)
  · rw [if_pos hc] at hf
    refine v_iload_n (pc := 16) (j := 3) C dX9_bound_16 rfl rfl ?_
    refine v_if_eq (pc := 17) (tgt := 30) C dX9_bound_17 rfl (fun hc => ?_) (fun hc => ?_)
    · rw [if_pos hc] at hf
      refine v_aload_n (pc := 30) (j := 0) C dX9_bound_30 rfl rfl ?_
      obtain ⟨h7, eh7, hf⟩ := oB hf
      refine v_new (pc := 31) (t := 10) (fs := dfX11) (T := TX11) (N := 2) C rfl in_X11 tyX11 tyX11_ok q1376 q1377 q123 dfX11_ok rfl eh7 dX9_bound_31 ?_
      refine v_dup (pc := 34) C dX9_bound_34 (va_rfc _) ?_
      refine v_aload_n (pc := 35) (j := 0) C dX9_bound_35 rfl rfl ?_
      obtain ⟨b8, eb8, hf⟩ := oB hf
      obtain ⟨rb8, _, kb8⟩ := aIs_eq eb8
      obtain ⟨x9, ex9, hf⟩ := oB hf
      refine v_call (pc := 36) (d_V (pc := 36) C (As := []) (rest := [va_rf (some h3.1), va_rf (some h3.1), va_rf x2]) rb8 kb8 nt_18 q1519 yi_J35_last_java_util_TreeSet yk_J35_last rfl (by decide) (by decide) (Nat.le_trans (aw_r (aw_r (aw_r aw_0))) (by decide)) rfl (mJ35_last C.st ex9) dX9_bound_36) ?_
      obtain ⟨_, e11, hf⟩ := oB hf
      refine v_cast (pc := 39) C q1376 ct_FigureSurvey_Bound e11 dX9_bound_39 ?_
      obtain ⟨x12, ex12, hf⟩ := oB hf
      refine v_getF (pc := 42) C lk_X9_190 (gI_eq ex12) dX9_bound_42 ?_
      refine v_iconst (pc := 45) (v := (0 : Int32)) C dX9_bound_45 rfl ?_
      obtain ⟨h15, ex14, hf⟩ := oB hf
      refine v_callU (pc := 46) (d_I (pc := 46) C (As := [.int x12, .int (0 : Int32)]) (rest := [va_rf (some h3.1), va_rf x2]) rfl rfl rfl q1378 q1379 yk_X11_init rfl (by decide) (by decide) (Nat.le_trans (aw_r (aw_r aw_0)) (by decide)) rfl (mX11_init C.st ex14) dX9_bound_46) ?_
      obtain ⟨b16, eb16, hf⟩ := oB hf
      obtain ⟨rb16, _, kb16⟩ := aIs_eq eb16
      obtain ⟨x17, h18, ex17, hf⟩ := bnd2_eq hf
      refine v_call (pc := 49) (d_V (pc := 49) C (As := [va_rf (some h3.1)]) (rest := []) rb16 kb16 nt_18 q1535 yi_J35_ceiling_java_util_TreeSet yk_J35_ceiling rfl (by decide) (by decide) (Nat.le_trans aw_0 (by decide)) rfl (mJ35_ceiling C.st ex17) dX9_bound_49) ?_
      obtain ⟨_, e19, hf⟩ := oB hf
      refine v_cast (pc := 52) C q1376 ct_FigureSurvey_Bound e19 dX9_bound_52 ?_
      cases hf
      exact v_areturn (pc := 55) C X.2.1 X.2.2.1 X.2.2.2.1 (Or.inl ⟨_, rfl⟩) rfl dX9_bound_55
    · rw [if_neg hc] at hf
      refine v_aload_n (pc := 20) (j := 0) C dX9_bound_20 rfl rfl ?_
      obtain ⟨b20, eb20, hf⟩ := oB hf
      obtain ⟨rb20, _, kb20⟩ := aIs_eq eb20
      obtain ⟨x21, ex21, hf⟩ := oB hf
      refine v_call (pc := 21) (d_V (pc := 21) C (As := []) (rest := []) rb20 kb20 nt_18 q1504 yi_J35_first_java_util_TreeSet yk_J35_first rfl (by decide) (by decide) (Nat.le_trans aw_0 (by decide)) rfl (mJ35_first C.st ex21) dX9_bound_21) ?_
      obtain ⟨_, e23, hf⟩ := oB hf
      refine v_cast (pc := 24) C q1376 ct_FigureSurvey_Bound e23 dX9_bound_24 ?_
      refine v_goto (pc := 27) (tgt := 55) C dX9_bound_27 rfl ?_
      cases hf
      exact v_areturn (pc := 55) C X.2.1 X.2.2.1 X.2.2.2.1 (Or.inl ⟨_, rfl⟩) rfl dX9_bound_55
  · rw [if_neg hc] at hf
    refine v_null (pc := 14) C dX9_bound_14 ?_
    cases hf
    exact v_areturn (pc := 15) C X.2.1 X.2.2.1 X.2.2.2.1 (Or.inl ⟨_, rfl⟩) rfl dX9_bound_15
theorem mX9_bound {l : Launch} {D : aD} {h : aH} {a0 : Option Nat} {a1 : Option Nat} {a2 : Int32} {q : Option Nat} {g : aH} (hst : l.stackTraces = false) (hf : fX9_bound D h a0 a1 a2 = some (q, g)) : aM l D yX9_bound cX9_bound 4 (some (.object "FigureSurvey$Bound")) 23 3393 [va_rf a0, va_rf a1, .int a2] h (.inr (some (va_rf q)), g) :=
  aM.ofX [(false, va_rf a0), (false, va_rf a1), (false, .int a2)] rfl (ap_r (ap_r (ap_c rfl ap_0))) (by decide +kernel) hst (al_of (aw_r (aw_r (aw_i aw_0))) (by decide)) fun p e s m args below meth c X => V.sub (lv' := [(0, false, va_rf a0), (1, false, va_rf a1), (2, false, .int a2)]) [0, 1, 2] rfl (vX9_bound X hf)
def fX9_year (D : aD) (h : aH) (a0 : Option Nat) (a1 : Option Nat) (a2 : Int32) : Option (Int32 × aH) :=
  (aIs h 8 a0).bind fun _ =>
  bnd2 (fX9_bound D h a0 a1 a2) fun x2 h3 =>
  if x2 = none then
  (if a2 = 0 then
  (some ((0 : Int32), h3))
  else
  (some ((30000 : Int32), h3)))
  else
  ((gI h3 10 0 x2).bind fun x4 =>
  some (x4, h3))
theorem vX9_year {h : aH} {a0 : Option Nat} {a1 : Option Nat} {a2 : Int32} {q : Int32} {g : aH} (X : aX p l R s m meth c D n0 s0 yX9_year cX9_year 24 3416 4 (some .int) h0) (hf : fX9_year D h a0 a1 a2 = some (q, g)) : V p l e R s m args below meth c D n0 s0 (aEnd D below args s h0 (.inr (some (.int q)), g)) h 0 [(0, false, va_rf a0), (1, false, va_rf a1), (2, false, .int a2)] [] := by
  have C := X.1
  unfold fX9_year at hf
  refine v_aload_n (pc := 0) (j := 0) C dX9_year_0 rfl rfl ?_
  refine v_aload_n (pc := 1) (j := 1) C dX9_year_1 rfl rfl ?_
  refine v_iload_n (pc := 2) (j := 2) C dX9_year_2 rfl rfl ?_
  obtain ⟨b1, eb1, hf⟩ := oB hf
  obtain ⟨rb1, _, kb1⟩ := aIs_eq eb1
  obtain ⟨x2, h3, ex2, hf⟩ := bnd2_eq hf
  refine v_call (pc := 3) (d_V (pc := 3) C (As := [va_rf a1, .int a2]) (rest := []) rb1 kb1 nt_8 q1353 yi_X9_bound_FigureSurvey_Scene yk_X9_bound rfl (by decide) (by decide) (Nat.le_trans aw_0 (by decide)) rfl (mX9_bound C.st ex2) dX9_year_3) ?_
  refine v_astore_n (pc := 6) (lv' := [(3, false, va_rf x2), (0, false, va_rf a0), (1, false, va_rf a1), (2, false, .int a2)]) C dX9_year_6 rfl (by decide) rfl ?_
  refine v_aload_n (pc := 7) (j := 0) C dX9_year_7 rfl rfl ?_
  refine v_ifnull (pc := 8) (tgt := 18) C dX9_year_8 rfl (fun hc => ?_) (fun hc => ?_)
  · rw [if_pos hc] at hf
    refine v_iload_n (pc := 18) (j := 3) C dX9_year_18 rfl rfl ?_
    refine v_if_eq (pc := 19) (tgt := 28) C dX9_year_19 rfl (fun hc => ?_) (fun hc => ?_)
    · rw [if_pos hc] at hf
      refine v_iconst (pc := 28) (v := (0 : Int32)) C dX9_year_28 rfl ?_
      cases hf
      exact v_ireturn (pc := 29) C X.2.1 X.2.2.1 X.2.2.2.1 rfl dX9_year_29
    · rw [if_neg hc] at hf
      refine v_sipush (pc := 22) (v := (30000 : Int32)) C dX9_year_22 rfl ?_
      refine v_goto (pc := 25) (tgt := 29) C dX9_year_25 rfl ?_
      cases hf
      exact v_ireturn (pc := 29) C X.2.1 X.2.2.1 X.2.2.2.1 rfl dX9_year_29
  · rw [if_neg hc] at hf
    refine v_aload_n (pc := 11) (j := 0) C dX9_year_11 rfl rfl ?_
    obtain ⟨x4, ex4, hf⟩ := oB hf
    refine v_getF (pc := 12) C lk_X9_190 (gI_eq ex4) dX9_year_12 ?_
    refine v_goto (pc := 15) (tgt := 29) C dX9_year_15 rfl ?_
    cases hf
    exact v_ireturn (pc := 29) C X.2.1 X.2.2.1 X.2.2.2.1 rfl dX9_year_29
theorem mX9_year {l : Launch} {D : aD} {h : aH} {a0 : Option Nat} {a1 : Option Nat} {a2 : Int32} {q : Int32} {g : aH} (hst : l.stackTraces = false) (hf : fX9_year D h a0 a1 a2 = some (q, g)) : aM l D yX9_year cX9_year 4 (some .int) 24 3416 [va_rf a0, va_rf a1, .int a2] h (.inr (some (.int q)), g) :=
  aM.ofX [(false, va_rf a0), (false, va_rf a1), (false, .int a2)] rfl (ap_r (ap_r (ap_c rfl ap_0))) (by decide +kernel) hst (al_of (aw_r (aw_r (aw_i aw_0))) (by decide)) fun p e s m args below meth c X => V.sub (lv' := [(0, false, va_rf a0), (1, false, va_rf a1), (2, false, .int a2)]) [0, 1, 2] rfl (vX9_year X hf)
def fX1_meanSpan_p98 (D : aD) (K6 : aH → (Option Nat) → Int32 → Int32 → Int32 → Option (UInt64 × aH)) (h : aH) (a0 : Option Nat) (a1 : Int32) (a2 : Int32) (a3 : Int32) : Option (UInt64 × aH) :=
  K6 h a0 a1 a2 (a3 + 1)
theorem vX1_meanSpan_p98 {h : aH} {K6 : aH → (Option Nat) → Int32 → Int32 → Int32 → Option (UInt64 × aH)} {a0 : Option Nat} {a1 : Int32} {a2 : Int32} {a3 : Int32} {q : UInt64} {g : aH} (X : aX p l R s m meth c D n0 s0 yX1_meanSpan cX1_meanSpan 25 3439 7 (some .double) h0) (k6 : ∀ (h : aH) (a0 : Option Nat) (a1 : Int32) (a2 : Int32) (a3 : Int32) (q : UInt64) (g : aH), K6 h a0 a1 a2 a3 = some (q, g) → V p l e R s m args below meth c D n0 s0 (aEnd D below args s h0 (.inr (some (.double q)), g)) h 6 [(0, false, va_rf a0), (1, false, .int a1), (2, false, .int a2), (3, false, .int a3)] []) (hf : fX1_meanSpan_p98 D K6 h a0 a1 a2 a3 = some (q, g)) : V p l e R s m args below meth c D n0 s0 (aEnd D below args s h0 (.inr (some (.double q)), g)) h 98 [(0, false, va_rf a0), (1, false, .int a1), (2, false, .int a2), (3, false, .int a3)] [] := by
  have C := X.1
  unfold fX1_meanSpan_p98 at hf
  refine v_iinc (pc := 98) (j := 3) (v := (a3 + 1)) (lv' := [(3, false, .int (a3 + 1)), (0, false, va_rf a0), (1, false, .int a1), (2, false, .int a2)]) C dX1_meanSpan_98 rfl rfl (by decide) rfl ?_
  refine v_goto (pc := 101) (tgt := 6) C dX1_meanSpan_101 rfl ?_
  exact V.sub [1, 2, 3, 0] rfl (k6 _ _ _ _ _ _ _ hf)
def fX1_meanSpan_p41 (D : aD) (K6 : aH → (Option Nat) → Int32 → Int32 → Int32 → Option (UInt64 × aH)) : Nat → aH → (Option Nat) → Int32 → Int32 → Int32 → (Option Nat) → Int32 → Option (UInt64 × aH)
  | 0, _, _, _, _, _, _, _ => none
  | n + 1, h, a0, a1, a2, a3, a4, a5 =>
  (gR h 8 1 a4).bind fun x1 =>
  (aIs h 15 x1).bind fun _ =>
  (fJ2_size D h x1).bind fun x3 =>
  if x3 ≤ a5 then
  (fX1_meanSpan_p98 D K6 h a0 a1 a2 a3)
  else
  ((gR h 8 1 a4).bind fun x5 =>
  (aIs h 15 x5).bind fun _ =>
  (fJ2_get D h x5 a5).bind fun x7 =>
  (aCast h [4] x7).bind fun _ =>
  (aIs h 8 a4).bind fun _ =>
  bnd2 (fX9_year D h a4 x7 (1 : Int32)) fun x11 h12 =>
  (aIs h12 8 a4).bind fun _ =>
  bnd2 (fX9_year D h12 a4 x7 (0 : Int32)) fun x14 h15 =>
  (some ((a1 + (x11 - x14)))).bind fun x16 =>
  fX1_meanSpan_p41 D K6 n h15 a0 x16 (a2 + 1) a3 a4 (a5 + 1))
theorem vX1_meanSpan_p41 {K6 : aH → (Option Nat) → Int32 → Int32 → Int32 → Option (UInt64 × aH)} (X : aX p l R s m meth c D n0 s0 yX1_meanSpan cX1_meanSpan 25 3439 7 (some .double) h0) (k6 : ∀ (h : aH) (a0 : Option Nat) (a1 : Int32) (a2 : Int32) (a3 : Int32) (q : UInt64) (g : aH), K6 h a0 a1 a2 a3 = some (q, g) → V p l e R s m args below meth c D n0 s0 (aEnd D below args s h0 (.inr (some (.double q)), g)) h 6 [(0, false, va_rf a0), (1, false, .int a1), (2, false, .int a2), (3, false, .int a3)] []) : ∀ (n : Nat) (h : aH) (a0 : Option Nat) (a1 : Int32) (a2 : Int32) (a3 : Int32) (a4 : Option Nat) (a5 : Int32) (q : UInt64) (g : aH), fX1_meanSpan_p41 D K6 n h a0 a1 a2 a3 a4 a5 = some (q, g) → V p l e R s m args below meth c D n0 s0 (aEnd D below args s h0 (.inr (some (.double q)), g)) h 41 [(0, false, va_rf a0), (1, false, .int a1), (2, false, .int a2), (3, false, .int a3), (4, false, va_rf a4), (5, false, .int a5)] [] := by
  have C := X.1
  intro n
  induction n with
  | zero =>
    intro _ _ _ _ _ _ _ _ _ hf
    rw [fX1_meanSpan_p41] at hf
    cases hf
  | succ n ih =>
    intro h a0 a1 a2 a3 a4 a5 q g hf
    rw [fX1_meanSpan_p41] at hf
    refine v_iload (pc := 41) (j := 5) C dX1_meanSpan_41 rfl ?_
    refine v_aload (pc := 43) (j := 4) C dX1_meanSpan_43 rfl ?_
    obtain ⟨x1, ex1, hf⟩ := oB hf
    refine v_getF (pc := 45) C lk_X1_356 (gR_eq ex1) dX1_meanSpan_45 ?_
    obtain ⟨b2, eb2, hf⟩ := oB hf
    obtain ⟨rb2, _, kb2⟩ := aIs_eq eb2
    obtain ⟨x3, ex3, hf⟩ := oB hf
    refine v_call (pc := 48) (d_V (pc := 48) C (As := []) (rest := [.int a5]) rb2 kb2 nt_15 q375 yi_J2_size_java_util_ArrayList yk_J2_size rfl (by decide) (by decide) (Nat.le_trans (aw_i aw_0) (by decide)) rfl (mJ2_size C.st ex3) dX1_meanSpan_48) ?_
    refine v_icmp_ge (pc := 51) (tgt := 98) C dX1_meanSpan_51 rfl (fun hc => ?_) (fun hc => ?_)
    · rw [if_pos hc] at hf
      exact V.sub [0, 1, 2, 3] rfl (vX1_meanSpan_p98 X k6 hf)
    · rw [if_neg hc] at hf
      refine v_aload (pc := 54) (j := 4) C dX1_meanSpan_54 rfl ?_
      obtain ⟨x5, ex5, hf⟩ := oB hf
      refine v_getF (pc := 56) C lk_X1_356 (gR_eq ex5) dX1_meanSpan_56 ?_
      refine v_iload (pc := 59) (j := 5) C dX1_meanSpan_59 rfl ?_
      obtain ⟨b6, eb6, hf⟩ := oB hf
      obtain ⟨rb6, _, kb6⟩ := aIs_eq eb6
      obtain ⟨x7, ex7, hf⟩ := oB hf
      refine v_call (pc := 61) (d_V (pc := 61) C (As := [.int a5]) (rest := []) rb6 kb6 nt_15 q379 yi_J2_get_java_util_ArrayList yk_J2_get rfl (by decide) (by decide) (Nat.le_trans aw_0 (by decide)) rfl (mJ2_get C.st ex7) dX1_meanSpan_61) ?_
      obtain ⟨_, e9, hf⟩ := oB hf
      refine v_cast (pc := 64) C q514 ct_FigureSurvey_Figure e9 dX1_meanSpan_64 ?_
      refine v_astore (pc := 67) (lv' := [(6, false, va_rf x7), (0, false, va_rf a0), (1, false, .int a1), (2, false, .int a2), (3, false, .int a3), (4, false, va_rf a4), (5, false, .int a5)]) C dX1_meanSpan_67 (by decide) rfl ?_
      refine v_iload_n (pc := 69) (j := 2) C dX1_meanSpan_69 rfl rfl ?_
      refine v_aload (pc := 70) (j := 5) C dX1_meanSpan_70 rfl ?_
      refine v_aload (pc := 72) (j := 0) C dX1_meanSpan_72 rfl ?_
      refine v_iconst (pc := 74) (v := (1 : Int32)) C dX1_meanSpan_74 rfl ?_
      obtain ⟨b10, eb10, hf⟩ := oB hf
      obtain ⟨rb10, _, kb10⟩ := aIs_eq eb10
      obtain ⟨x11, h12, ex11, hf⟩ := bnd2_eq hf
      refine v_call (pc := 75) (d_V (pc := 75) C (As := [va_rf x7, .int (1 : Int32)]) (rest := [.int a1]) rb10 kb10 nt_8 q1349 yi_X9_year_FigureSurvey_Scene yk_X9_year rfl (by decide) (by decide) (Nat.le_trans (aw_i aw_0) (by decide)) rfl (mX9_year C.st ex11) dX1_meanSpan_75) ?_
      refine v_aload (pc := 78) (j := 5) C dX1_meanSpan_78 rfl ?_
      refine v_aload (pc := 80) (j := 0) C dX1_meanSpan_80 rfl ?_
      refine v_iconst (pc := 82) (v := (0 : Int32)) C dX1_meanSpan_82 rfl ?_
      obtain ⟨b13, eb13, hf⟩ := oB hf
      obtain ⟨rb13, _, kb13⟩ := aIs_eq eb13
      obtain ⟨x14, h15, ex14, hf⟩ := bnd2_eq hf
      refine v_call (pc := 83) (d_V (pc := 83) C (As := [va_rf x7, .int (0 : Int32)]) (rest := [.int x11, .int a1]) rb13 kb13 nt_8 q1349 yi_X9_year_FigureSurvey_Scene yk_X9_year rfl (by decide) (by decide) (Nat.le_trans (aw_i (aw_i aw_0)) (by decide)) rfl (mX9_year C.st ex14) dX1_meanSpan_83) ?_
      refine v_isub (pc := 86) C dX1_meanSpan_86 ?_
      refine v_iadd (pc := 87) C dX1_meanSpan_87 ?_
      obtain ⟨x16, ex16, hf⟩ := oB hf
      refine vst (Option.some.inj ex16) (fun z => .int z :: []) ?_
      refine v_istore_n (pc := 88) (lv' := [(1, false, .int x16), (6, false, va_rf x7), (0, false, va_rf a0), (2, false, .int a2), (3, false, .int a3), (4, false, va_rf a4), (5, false, .int a5)]) C dX1_meanSpan_88 rfl (by decide) rfl ?_
      refine v_iinc (pc := 89) (j := 3) (v := (a2 + 1)) (lv' := [(2, false, .int (a2 + 1)), (1, false, .int x16), (6, false, va_rf x7), (0, false, va_rf a0), (3, false, .int a3), (4, false, va_rf a4), (5, false, .int a5)]) C dX1_meanSpan_89 rfl rfl (by decide) rfl ?_
      refine v_iinc (pc := 92) (j := 6) (v := (a5 + 1)) (lv' := [(5, false, .int (a5 + 1)), (2, false, .int (a2 + 1)), (1, false, .int x16), (6, false, va_rf x7), (0, false, va_rf a0), (3, false, .int a3), (4, false, va_rf a4)]) C dX1_meanSpan_92 rfl rfl (by decide) rfl ?_
      refine v_goto (pc := 95) (tgt := 41) C dX1_meanSpan_95 rfl ?_
      exact V.sub [4, 2, 1, 5, 6, 0] rfl (ih _ _ _ _ _ _ _ _ _ hf)
def fX1_meanSpan_p104 (D : aD) (h : aH) (a1 : Int32) (a2 : Int32) : Option (UInt64 × aH) :=
  if a2 = 0 then
  (some (FP.dconst0, h))
  else
  ((ck64 (FP.ddiv (FP.i2d a1) (FP.i2d a2))).bind fun _ =>
  some ((FP.ddiv (FP.i2d a1) (FP.i2d a2)), h))
theorem vX1_meanSpan_p104 {h : aH} {a1 : Int32} {a2 : Int32} {q : UInt64} {g : aH} (X : aX p l R s m meth c D n0 s0 yX1_meanSpan cX1_meanSpan 25 3439 7 (some .double) h0) (hf : fX1_meanSpan_p104 D h a1 a2 = some (q, g)) : V p l e R s m args below meth c D n0 s0 (aEnd D below args s h0 (.inr (some (.double q)), g)) h 104 [(1, false, .int a1), (2, false, .int a2)] [] := by
  have C := X.1
  unfold fX1_meanSpan_p104 at hf
  refine v_iload_n (pc := 104) (j := 1) C dX1_meanSpan_104 rfl rfl ?_
  refine v_if_ne (pc := 105) (tgt := 112) C dX1_meanSpan_105 rfl (fun hc => ?_) (fun hc => ?_)
  · rw [if_neg hc] at hf
    refine v_iload_n (pc := 112) (j := 0) C dX1_meanSpan_112 rfl rfl ?_
    refine v_i2d (pc := 113) C dX1_meanSpan_113 ?_
    refine v_iload_n (pc := 114) (j := 1) C dX1_meanSpan_114 rfl rfl ?_
    refine v_i2d (pc := 115) C dX1_meanSpan_115 ?_
    obtain ⟨_, e1, hf⟩ := oB hf
    refine v_ddiv (pc := 116) C dX1_meanSpan_116 (ck64_eq e1) ?_
    cases hf
    exact v_dreturn (pc := 117) C X.2.1 X.2.2.1 X.2.2.2.1 rfl dX1_meanSpan_117
  · rw [if_pos (Decidable.of_not_not hc)] at hf
    refine v_dconst0 (pc := 108) C dX1_meanSpan_108 ?_
    refine v_goto (pc := 109) (tgt := 117) C dX1_meanSpan_109 rfl ?_
    cases hf
    exact v_dreturn (pc := 117) C X.2.1 X.2.2.1 X.2.2.2.1 rfl dX1_meanSpan_117
def fX1_meanSpan_p6 (D : aD) : Nat → aH → (Option Nat) → Int32 → Int32 → Int32 → Option (UInt64 × aH)
  | 0, _, _, _, _, _ => none
  | n + 1, h, a0, a1, a2, a3 =>
  (gR h 0 1 a0).bind fun x1 =>
  (aIs h 15 x1).bind fun _ =>
  (fJ2_size D h x1).bind fun x3 =>
  if x3 ≤ a3 then
  (fX1_meanSpan_p104 D h a1 a2)
  else
  ((aMk D h (8, dfX9)).bind fun h5 =>
  (gR h5 0 1 a0).bind fun x6 =>
  (aIs h5 15 x6).bind fun _ =>
  (fJ2_get D h5 x6 a3).bind fun x8 =>
  (aCast h5 [2] x8).bind fun _ =>
  (fX9_init D h5 (some h.1) a0 x8).bind fun h13 =>
  fX1_meanSpan_p41 D (fX1_meanSpan_p6 D n) FU h13 a0 a1 a2 a3 (some h.1) (0 : Int32))
theorem vX1_meanSpan_p6 (X : aX p l R s m meth c D n0 s0 yX1_meanSpan cX1_meanSpan 25 3439 7 (some .double) h0) : ∀ (n : Nat) (h : aH) (a0 : Option Nat) (a1 : Int32) (a2 : Int32) (a3 : Int32) (q : UInt64) (g : aH), fX1_meanSpan_p6 D n h a0 a1 a2 a3 = some (q, g) → V p l e R s m args below meth c D n0 s0 (aEnd D below args s h0 (.inr (some (.double q)), g)) h 6 [(0, false, va_rf a0), (1, false, .int a1), (2, false, .int a2), (3, false, .int a3)] [] := by
  have C := X.1
  intro n
  induction n with
  | zero =>
    intro _ _ _ _ _ _ _ hf
    rw [fX1_meanSpan_p6] at hf
    cases hf
  | succ n ih =>
    intro h a0 a1 a2 a3 q g hf
    rw [fX1_meanSpan_p6] at hf
    refine v_iload_n (pc := 6) (j := 3) C dX1_meanSpan_6 rfl rfl ?_
    refine v_aload_n (pc := 7) (j := 0) C dX1_meanSpan_7 rfl rfl ?_
    obtain ⟨x1, ex1, hf⟩ := oB hf
    refine v_getF (pc := 8) C lk_X1_49 (gR_eq ex1) dX1_meanSpan_8 ?_
    obtain ⟨b2, eb2, hf⟩ := oB hf
    obtain ⟨rb2, _, kb2⟩ := aIs_eq eb2
    obtain ⟨x3, ex3, hf⟩ := oB hf
    refine v_call (pc := 11) (d_V (pc := 11) C (As := []) (rest := [.int a3]) rb2 kb2 nt_15 q375 yi_J2_size_java_util_ArrayList yk_J2_size rfl (by decide) (by decide) (Nat.le_trans (aw_i aw_0) (by decide)) rfl (mJ2_size C.st ex3) dX1_meanSpan_11) ?_
    refine v_icmp_ge (pc := 14) (tgt := 104) C dX1_meanSpan_14 rfl (fun hc => ?_) (fun hc => ?_)
    · rw [if_pos hc] at hf
      exact V.sub [1, 2] rfl (vX1_meanSpan_p104 X hf)
    · rw [if_neg hc] at hf
      obtain ⟨h5, eh5, hf⟩ := oB hf
      refine v_new (pc := 17) (t := 8) (fs := dfX9) (T := TX9) (N := 8) C rfl in_X9 tyX9 tyX9_ok q862 q863 q120 dfX9_ok rfl eh5 dX1_meanSpan_17 ?_
      refine v_dup (pc := 20) C dX1_meanSpan_20 (va_rfc _) ?_
      refine v_aload_n (pc := 21) (j := 0) C dX1_meanSpan_21 rfl rfl ?_
      refine v_aload_n (pc := 22) (j := 0) C dX1_meanSpan_22 rfl rfl ?_
      obtain ⟨x6, ex6, hf⟩ := oB hf
      refine v_getF (pc := 23) C lk_X1_49 (gR_eq ex6) dX1_meanSpan_23 ?_
      refine v_iload_n (pc := 26) (j := 3) C dX1_meanSpan_26 rfl rfl ?_
      obtain ⟨b7, eb7, hf⟩ := oB hf
      obtain ⟨rb7, _, kb7⟩ := aIs_eq eb7
      obtain ⟨x8, ex8, hf⟩ := oB hf
      refine v_call (pc := 27) (d_V (pc := 27) C (As := [.int a3]) (rest := [va_rf a0, va_rf (some h.1), va_rf (some h.1)]) rb7 kb7 nt_15 q379 yi_J2_get_java_util_ArrayList yk_J2_get rfl (by decide) (by decide) (Nat.le_trans (aw_r (aw_r (aw_r aw_0))) (by decide)) rfl (mJ2_get C.st ex8) dX1_meanSpan_27) ?_
      obtain ⟨_, e10, hf⟩ := oB hf
      refine v_cast (pc := 30) C q393 ct_FigureSurvey_Panel e10 dX1_meanSpan_30 ?_
      obtain ⟨h13, ex12, hf⟩ := oB hf
      refine v_callU (pc := 33) (d_I (pc := 33) C (As := [va_rf a0, va_rf x8]) (rest := [va_rf (some h.1)]) rfl rfl rfl q864 q865 yk_X9_init rfl (by decide) (by decide) (Nat.le_trans (aw_r aw_0) (by decide)) rfl (mX9_init C.st ex12) dX1_meanSpan_33) ?_
      refine v_astore (pc := 36) (lv' := [(4, false, va_rf (some h.1)), (0, false, va_rf a0), (1, false, .int a1), (2, false, .int a2), (3, false, .int a3)]) C dX1_meanSpan_36 (by decide) rfl ?_
      refine v_iconst (pc := 38) (v := (0 : Int32)) C dX1_meanSpan_38 rfl ?_
      refine v_istore (pc := 39) (lv' := [(5, false, .int (0 : Int32)), (4, false, va_rf (some h.1)), (0, false, va_rf a0), (1, false, .int a1), (2, false, .int a2), (3, false, .int a3)]) C dX1_meanSpan_39 (by decide) rfl ?_
      exact V.sub [2, 3, 4, 5, 1, 0] rfl (vX1_meanSpan_p41 X ih _ _ _ _ _ _ _ _ _ _ hf)
def fX1_meanSpan (D : aD) (h : aH) (a0 : Option Nat) : Option (UInt64 × aH) :=
  fX1_meanSpan_p6 D FU h a0 (0 : Int32) (0 : Int32) (0 : Int32)
theorem vX1_meanSpan {h : aH} {a0 : Option Nat} {q : UInt64} {g : aH} (X : aX p l R s m meth c D n0 s0 yX1_meanSpan cX1_meanSpan 25 3439 7 (some .double) h0) (hf : fX1_meanSpan D h a0 = some (q, g)) : V p l e R s m args below meth c D n0 s0 (aEnd D below args s h0 (.inr (some (.double q)), g)) h 0 [(0, false, va_rf a0)] [] := by
  have C := X.1
  unfold fX1_meanSpan at hf
  refine v_iconst (pc := 0) (v := (0 : Int32)) C dX1_meanSpan_0 rfl ?_
  refine v_istore_n (pc := 1) (lv' := [(1, false, .int (0 : Int32)), (0, false, va_rf a0)]) C dX1_meanSpan_1 rfl (by decide) rfl ?_
  refine v_iconst (pc := 2) (v := (0 : Int32)) C dX1_meanSpan_2 rfl ?_
  refine v_istore_n (pc := 3) (lv' := [(2, false, .int (0 : Int32)), (1, false, .int (0 : Int32)), (0, false, va_rf a0)]) C dX1_meanSpan_3 rfl (by decide) rfl ?_
  refine v_iconst (pc := 4) (v := (0 : Int32)) C dX1_meanSpan_4 rfl ?_
  refine v_istore_n (pc := 5) (lv' := [(3, false, .int (0 : Int32)), (2, false, .int (0 : Int32)), (1, false, .int (0 : Int32)), (0, false, va_rf a0)]) C dX1_meanSpan_5 rfl (by decide) rfl ?_
  exact V.sub [3, 2, 1, 0] rfl (vX1_meanSpan_p6 X _ _ _ _ _ _ _ _ hf)
theorem mX1_meanSpan {l : Launch} {D : aD} {h : aH} {a0 : Option Nat} {q : UInt64} {g : aH} (hst : l.stackTraces = false) (hf : fX1_meanSpan D h a0 = some (q, g)) : aM l D yX1_meanSpan cX1_meanSpan 7 (some .double) 25 3439 [va_rf a0] h (.inr (some (.double q)), g) :=
  aM.ofX [(false, va_rf a0)] rfl (ap_r ap_0) (by decide +kernel) hst (al_of (aw_r aw_0) (by decide)) fun p e s m args below meth c X => V.sub (lv' := [(0, false, va_rf a0)]) [0] rfl (vX1_meanSpan X hf)
def fX1_heldShare_p106 (D : aD) (K6 : aH → (Option Nat) → Int32 → Int32 → Int32 → Option (UInt32 × aH)) (h : aH) (a0 : Option Nat) (a1 : Int32) (a2 : Int32) (a3 : Int32) : Option (UInt32 × aH) :=
  K6 h a0 a1 a2 (a3 + 1)
theorem vX1_heldShare_p106 {h : aH} {K6 : aH → (Option Nat) → Int32 → Int32 → Int32 → Option (UInt32 × aH)} {a0 : Option Nat} {a1 : Int32} {a2 : Int32} {a3 : Int32} {q : UInt32} {g : aH} (X : aX p l R s m meth c D n0 s0 yX1_heldShare cX1_heldShare 12 3140 7 (some .float) h0) (k6 : ∀ (h : aH) (a0 : Option Nat) (a1 : Int32) (a2 : Int32) (a3 : Int32) (q : UInt32) (g : aH), K6 h a0 a1 a2 a3 = some (q, g) → V p l e R s m args below meth c D n0 s0 (aEnd D below args s h0 (.inr (some (.float q)), g)) h 6 [(0, false, va_rf a0), (1, false, .int a1), (2, false, .int a2), (3, false, .int a3)] []) (hf : fX1_heldShare_p106 D K6 h a0 a1 a2 a3 = some (q, g)) : V p l e R s m args below meth c D n0 s0 (aEnd D below args s h0 (.inr (some (.float q)), g)) h 106 [(0, false, va_rf a0), (1, false, .int a1), (2, false, .int a2), (3, false, .int a3)] [] := by
  have C := X.1
  unfold fX1_heldShare_p106 at hf
  refine v_iinc (pc := 106) (j := 3) (v := (a3 + 1)) (lv' := [(3, false, .int (a3 + 1)), (0, false, va_rf a0), (1, false, .int a1), (2, false, .int a2)]) C dX1_heldShare_106 rfl rfl (by decide) rfl ?_
  refine v_goto (pc := 109) (tgt := 6) C dX1_heldShare_109 rfl ?_
  exact V.sub [1, 2, 3, 0] rfl (k6 _ _ _ _ _ _ _ hf)
def fX1_heldShare_p52 (D : aD) (K6 : aH → (Option Nat) → Int32 → Int32 → Int32 → Option (UInt32 × aH)) : Nat → aH → (Option Nat) → Int32 → Int32 → Int32 → (Option Nat) → (Option Nat) → Option (UInt32 × aH)
  | 0, _, _, _, _, _, _, _ => none
  | n + 1, h, a0, a1, a2, a3, a4, a5 =>
  (aIs h 20 a5).bind fun _ =>
  (fJ25_hasNext D h a5).bind fun x2 =>
  if x2 = 0 then
  (fX1_heldShare_p106 D K6 h a0 a1 a2 a3)
  else
  ((aIs h 20 a5).bind fun _ =>
  bnd2 (fJ28_next D h a5) fun x5 h6 =>
  (aCast h6 [7] x5).bind fun _ =>
  (aIs h6 8 a4).bind fun _ =>
  (fX9_counts D h6 a4 x5).bind fun x9 =>
  if x9 = 0 then
  (fX1_heldShare_p52 D K6 n h6 a0 a1 a2 a3 a4 a5)
  else
  ((aIs h6 8 a4).bind fun _ =>
  (fX9_isBroken D h6 a4 x5).bind fun x12 =>
  fX1_heldShare_p52 D K6 n h6 a0 (if x12 = 0 then (a1 + 1) else a1) (a2 + 1) a3 a4 a5))
theorem vX1_heldShare_p52 {K6 : aH → (Option Nat) → Int32 → Int32 → Int32 → Option (UInt32 × aH)} (X : aX p l R s m meth c D n0 s0 yX1_heldShare cX1_heldShare 12 3140 7 (some .float) h0) (k6 : ∀ (h : aH) (a0 : Option Nat) (a1 : Int32) (a2 : Int32) (a3 : Int32) (q : UInt32) (g : aH), K6 h a0 a1 a2 a3 = some (q, g) → V p l e R s m args below meth c D n0 s0 (aEnd D below args s h0 (.inr (some (.float q)), g)) h 6 [(0, false, va_rf a0), (1, false, .int a1), (2, false, .int a2), (3, false, .int a3)] []) : ∀ (n : Nat) (h : aH) (a0 : Option Nat) (a1 : Int32) (a2 : Int32) (a3 : Int32) (a4 : Option Nat) (a5 : Option Nat) (q : UInt32) (g : aH), fX1_heldShare_p52 D K6 n h a0 a1 a2 a3 a4 a5 = some (q, g) → V p l e R s m args below meth c D n0 s0 (aEnd D below args s h0 (.inr (some (.float q)), g)) h 52 [(0, false, va_rf a0), (1, false, .int a1), (2, false, .int a2), (3, false, .int a3), (4, false, va_rf a4), (5, false, va_rf a5)] [] := by
  have C := X.1
  intro n
  induction n with
  | zero =>
    intro _ _ _ _ _ _ _ _ _ hf
    rw [fX1_heldShare_p52] at hf
    cases hf
  | succ n ih =>
    intro h a0 a1 a2 a3 a4 a5 q g hf
    rw [fX1_heldShare_p52] at hf
    refine v_aload (pc := 52) (j := 5) C dX1_heldShare_52 rfl ?_
    obtain ⟨b1, eb1, hf⟩ := oB hf
    obtain ⟨rb1, _, kb1⟩ := aIs_eq eb1
    obtain ⟨x2, ex2, hf⟩ := oB hf
    refine v_call (pc := 54) (d_F (pc := 54) C (As := []) (rest := []) rb1 kb1 nt_20 q1563 q1084 ⟨q1083, ⟨by decide +kernel, by decide +kernel⟩⟩ q1111 q1104 q1105 q1112 q1110 (by decide +kernel) yk_J25_hasNext rfl (by decide) (by decide) (Nat.le_trans aw_0 (by decide)) rfl (mJ25_hasNext C.st ex2) dX1_heldShare_54) ?_
    refine v_if_eq (pc := 59) (tgt := 106) C dX1_heldShare_59 rfl (fun hc => ?_) (fun hc => ?_)
    · rw [if_pos hc] at hf
      exact V.sub [0, 1, 2, 3] rfl (vX1_heldShare_p106 X k6 hf)
    · rw [if_neg hc] at hf
      refine v_aload (pc := 62) (j := 5) C dX1_heldShare_62 rfl ?_
      obtain ⟨b4, eb4, hf⟩ := oB hf
      obtain ⟨rb4, _, kb4⟩ := aIs_eq eb4
      obtain ⟨x5, h6, ex5, hf⟩ := bnd2_eq hf
      refine v_call (pc := 64) (d_F (pc := 64) C (As := []) (rest := []) rb4 kb4 nt_20 q1565 q1116 ⟨q1115, ⟨by decide +kernel, by decide +kernel⟩⟩ q1171 q1173 q1174 q1172 q1110 (by decide +kernel) yk_J28_next rfl (by decide) (by decide) (Nat.le_trans aw_0 (by decide)) rfl (mJ28_next C.st ex5) dX1_heldShare_64) ?_
      obtain ⟨_, e7, hf⟩ := oB hf
      refine v_cast (pc := 69) C q1566 ct_FigureSurvey_Finding e7 dX1_heldShare_69 ?_
      refine v_astore (pc := 72) (lv' := [(6, false, va_rf x5), (0, false, va_rf a0), (1, false, .int a1), (2, false, .int a2), (3, false, .int a3), (4, false, va_rf a4), (5, false, va_rf a5)]) C dX1_heldShare_72 (by decide) rfl ?_
      refine v_aload (pc := 74) (j := 5) C dX1_heldShare_74 rfl ?_
      refine v_aload (pc := 76) (j := 0) C dX1_heldShare_76 rfl ?_
      obtain ⟨b8, eb8, hf⟩ := oB hf
      obtain ⟨rb8, _, kb8⟩ := aIs_eq eb8
      obtain ⟨x9, ex9, hf⟩ := oB hf
      refine v_call (pc := 78) (d_V (pc := 78) C (As := [va_rf x5]) (rest := []) rb8 kb8 nt_8 q1567 yi_X9_counts_FigureSurvey_Scene yk_X9_counts rfl (by decide) (by decide) (Nat.le_trans aw_0 (by decide)) rfl (mX9_counts C.st ex9) dX1_heldShare_78) ?_
      refine v_if_ne (pc := 81) (tgt := 87) C dX1_heldShare_81 rfl (fun hc => ?_) (fun hc => ?_)
      · rw [if_neg hc] at hf
        refine v_iinc (pc := 87) (j := 3) (v := (a2 + 1)) (lv' := [(2, false, .int (a2 + 1)), (6, false, va_rf x5), (0, false, va_rf a0), (1, false, .int a1), (3, false, .int a3), (4, false, va_rf a4), (5, false, va_rf a5)]) C dX1_heldShare_87 rfl rfl (by decide) rfl ?_
        refine v_aload (pc := 90) (j := 5) C dX1_heldShare_90 rfl ?_
        refine v_aload (pc := 92) (j := 1) C dX1_heldShare_92 rfl ?_
        obtain ⟨b11, eb11, hf⟩ := oB hf
        obtain ⟨rb11, _, kb11⟩ := aIs_eq eb11
        obtain ⟨x12, ex12, hf⟩ := oB hf
        refine v_call (pc := 94) (d_V (pc := 94) C (As := [va_rf x5]) (rest := []) rb11 kb11 nt_8 q1568 yi_X9_isBroken_FigureSurvey_Scene yk_X9_isBroken rfl (by decide) (by decide) (Nat.le_trans aw_0 (by decide)) rfl (mX9_isBroken C.st ex12) dX1_heldShare_94) ?_
        refine v_if_ne (pc := 97) (tgt := 103) C dX1_heldShare_97 rfl (fun hc => ?_) (fun hc => ?_)
        · simp only [if_neg hc] at hf
          refine v_goto (pc := 103) (tgt := 52) C dX1_heldShare_103 rfl ?_
          exact V.sub [2, 3, 0, 4, 5, 6] rfl (ih _ _ _ _ _ _ _ _ _ hf)
        · simp only [if_pos (Decidable.of_not_not hc)] at hf
          refine v_iinc (pc := 100) (j := 3) (v := (a1 + 1)) (lv' := [(1, false, .int (a1 + 1)), (2, false, .int (a2 + 1)), (6, false, va_rf x5), (0, false, va_rf a0), (3, false, .int a3), (4, false, va_rf a4), (5, false, va_rf a5)]) C dX1_heldShare_100 rfl rfl (by decide) rfl ?_
          refine v_goto (pc := 103) (tgt := 52) C dX1_heldShare_103 rfl ?_
          exact V.sub [3, 0, 1, 4, 5, 6] rfl (ih _ _ _ _ _ _ _ _ _ hf)
      · rw [if_pos (Decidable.of_not_not hc)] at hf
        refine v_goto (pc := 84) (tgt := 52) C dX1_heldShare_84 rfl ?_
        exact V.sub [1, 2, 3, 4, 5, 6] rfl (ih _ _ _ _ _ _ _ _ _ hf)
def fX1_heldShare_p112 (D : aD) (h : aH) (a1 : Int32) (a2 : Int32) : Option (UInt32 × aH) :=
  if a2 = 0 then
  (some (FP.fconst0, h))
  else
  ((ck32 (FP.fdiv (FP.i2f a1) (FP.i2f a2))).bind fun _ =>
  some ((FP.fdiv (FP.i2f a1) (FP.i2f a2)), h))
theorem vX1_heldShare_p112 {h : aH} {a1 : Int32} {a2 : Int32} {q : UInt32} {g : aH} (X : aX p l R s m meth c D n0 s0 yX1_heldShare cX1_heldShare 12 3140 7 (some .float) h0) (hf : fX1_heldShare_p112 D h a1 a2 = some (q, g)) : V p l e R s m args below meth c D n0 s0 (aEnd D below args s h0 (.inr (some (.float q)), g)) h 112 [(1, false, .int a1), (2, false, .int a2)] [] := by
  have C := X.1
  unfold fX1_heldShare_p112 at hf
  refine v_iload_n (pc := 112) (j := 1) C dX1_heldShare_112 rfl rfl ?_
  refine v_if_ne (pc := 113) (tgt := 120) C dX1_heldShare_113 rfl (fun hc => ?_) (fun hc => ?_)
  · rw [if_neg hc] at hf
    refine v_iload_n (pc := 120) (j := 0) C dX1_heldShare_120 rfl rfl ?_
    refine v_i2f (pc := 121) C dX1_heldShare_121 ?_
    refine v_iload_n (pc := 122) (j := 1) C dX1_heldShare_122 rfl rfl ?_
    refine v_i2f (pc := 123) C dX1_heldShare_123 ?_
    obtain ⟨_, e1, hf⟩ := oB hf
    refine v_fdiv (pc := 124) C dX1_heldShare_124 (ck32_eq e1) ?_
    cases hf
    exact v_freturn (pc := 125) C X.2.1 X.2.2.1 X.2.2.2.1 rfl dX1_heldShare_125
  · rw [if_pos (Decidable.of_not_not hc)] at hf
    refine v_fconst0 (pc := 116) C dX1_heldShare_116 ?_
    refine v_goto (pc := 117) (tgt := 125) C dX1_heldShare_117 rfl ?_
    cases hf
    exact v_freturn (pc := 125) C X.2.1 X.2.2.1 X.2.2.2.1 rfl dX1_heldShare_125
def fX1_heldShare_p6 (D : aD) : Nat → aH → (Option Nat) → Int32 → Int32 → Int32 → Option (UInt32 × aH)
  | 0, _, _, _, _, _ => none
  | n + 1, h, a0, a1, a2, a3 =>
  (gR h 0 1 a0).bind fun x1 =>
  (aIs h 15 x1).bind fun _ =>
  (fJ2_size D h x1).bind fun x3 =>
  if x3 ≤ a3 then
  (fX1_heldShare_p112 D h a1 a2)
  else
  ((aMk D h (8, dfX9)).bind fun h5 =>
  (gR h5 0 1 a0).bind fun x6 =>
  (aIs h5 15 x6).bind fun _ =>
  (fJ2_get D h5 x6 a3).bind fun x8 =>
  (aCast h5 [2] x8).bind fun _ =>
  (fX9_init D h5 (some h.1) a0 x8).bind fun h13 =>
  (gR h13 0 5 a0).bind fun x14 =>
  (aIs h13 16 x14).bind fun _ =>
  bnd2 (fJ4_values D h13 x14) fun x16 h17 =>
  (aIs h17 19 x16).bind fun _ =>
  bnd2 (fJ22_iterator D h17 x16) fun x19 h20 =>
  fX1_heldShare_p52 D (fX1_heldShare_p6 D n) FU h20 a0 a1 a2 a3 (some h.1) x19)
theorem vX1_heldShare_p6 (X : aX p l R s m meth c D n0 s0 yX1_heldShare cX1_heldShare 12 3140 7 (some .float) h0) : ∀ (n : Nat) (h : aH) (a0 : Option Nat) (a1 : Int32) (a2 : Int32) (a3 : Int32) (q : UInt32) (g : aH), fX1_heldShare_p6 D n h a0 a1 a2 a3 = some (q, g) → V p l e R s m args below meth c D n0 s0 (aEnd D below args s h0 (.inr (some (.float q)), g)) h 6 [(0, false, va_rf a0), (1, false, .int a1), (2, false, .int a2), (3, false, .int a3)] [] := by
  have C := X.1
  intro n
  induction n with
  | zero =>
    intro _ _ _ _ _ _ _ hf
    rw [fX1_heldShare_p6] at hf
    cases hf
  | succ n ih =>
    intro h a0 a1 a2 a3 q g hf
    rw [fX1_heldShare_p6] at hf
    refine v_iload_n (pc := 6) (j := 3) C dX1_heldShare_6 rfl rfl ?_
    refine v_aload_n (pc := 7) (j := 0) C dX1_heldShare_7 rfl rfl ?_
    obtain ⟨x1, ex1, hf⟩ := oB hf
    refine v_getF (pc := 8) C lk_X1_49 (gR_eq ex1) dX1_heldShare_8 ?_
    obtain ⟨b2, eb2, hf⟩ := oB hf
    obtain ⟨rb2, _, kb2⟩ := aIs_eq eb2
    obtain ⟨x3, ex3, hf⟩ := oB hf
    refine v_call (pc := 11) (d_V (pc := 11) C (As := []) (rest := [.int a3]) rb2 kb2 nt_15 q375 yi_J2_size_java_util_ArrayList yk_J2_size rfl (by decide) (by decide) (Nat.le_trans (aw_i aw_0) (by decide)) rfl (mJ2_size C.st ex3) dX1_heldShare_11) ?_
    refine v_icmp_ge (pc := 14) (tgt := 112) C dX1_heldShare_14 rfl (fun hc => ?_) (fun hc => ?_)
    · rw [if_pos hc] at hf
      exact V.sub [1, 2] rfl (vX1_heldShare_p112 X hf)
    · rw [if_neg hc] at hf
      obtain ⟨h5, eh5, hf⟩ := oB hf
      refine v_new (pc := 17) (t := 8) (fs := dfX9) (T := TX9) (N := 8) C rfl in_X9 tyX9 tyX9_ok q862 q863 q120 dfX9_ok rfl eh5 dX1_heldShare_17 ?_
      refine v_dup (pc := 20) C dX1_heldShare_20 (va_rfc _) ?_
      refine v_aload_n (pc := 21) (j := 0) C dX1_heldShare_21 rfl rfl ?_
      refine v_aload_n (pc := 22) (j := 0) C dX1_heldShare_22 rfl rfl ?_
      obtain ⟨x6, ex6, hf⟩ := oB hf
      refine v_getF (pc := 23) C lk_X1_49 (gR_eq ex6) dX1_heldShare_23 ?_
      refine v_iload_n (pc := 26) (j := 3) C dX1_heldShare_26 rfl rfl ?_
      obtain ⟨b7, eb7, hf⟩ := oB hf
      obtain ⟨rb7, _, kb7⟩ := aIs_eq eb7
      obtain ⟨x8, ex8, hf⟩ := oB hf
      refine v_call (pc := 27) (d_V (pc := 27) C (As := [.int a3]) (rest := [va_rf a0, va_rf (some h.1), va_rf (some h.1)]) rb7 kb7 nt_15 q379 yi_J2_get_java_util_ArrayList yk_J2_get rfl (by decide) (by decide) (Nat.le_trans (aw_r (aw_r (aw_r aw_0))) (by decide)) rfl (mJ2_get C.st ex8) dX1_heldShare_27) ?_
      obtain ⟨_, e10, hf⟩ := oB hf
      refine v_cast (pc := 30) C q393 ct_FigureSurvey_Panel e10 dX1_heldShare_30 ?_
      obtain ⟨h13, ex12, hf⟩ := oB hf
      refine v_callU (pc := 33) (d_I (pc := 33) C (As := [va_rf a0, va_rf x8]) (rest := [va_rf (some h.1)]) rfl rfl rfl q864 q865 yk_X9_init rfl (by decide) (by decide) (Nat.le_trans (aw_r aw_0) (by decide)) rfl (mX9_init C.st ex12) dX1_heldShare_33) ?_
      refine v_astore (pc := 36) (lv' := [(4, false, va_rf (some h.1)), (0, false, va_rf a0), (1, false, .int a1), (2, false, .int a2), (3, false, .int a3)]) C dX1_heldShare_36 (by decide) rfl ?_
      refine v_aload_n (pc := 38) (j := 1) C dX1_heldShare_38 rfl rfl ?_
      obtain ⟨x14, ex14, hf⟩ := oB hf
      refine v_getF (pc := 39) C lk_X1_65 (gR_eq ex14) dX1_heldShare_39 ?_
      obtain ⟨b15, eb15, hf⟩ := oB hf
      obtain ⟨rb15, _, kb15⟩ := aIs_eq eb15
      obtain ⟨x16, h17, ex16, hf⟩ := bnd2_eq hf
      refine v_call (pc := 42) (d_V (pc := 42) C (As := []) (rest := []) rb15 kb15 nt_16 q1559 yi_J4_values_java_util_TreeMap yk_J4_values rfl (by decide) (by decide) (Nat.le_trans aw_0 (by decide)) rfl (mJ4_values C.st ex16) dX1_heldShare_42) ?_
      obtain ⟨b18, eb18, hf⟩ := oB hf
      obtain ⟨rb18, _, kb18⟩ := aIs_eq eb18
      obtain ⟨x19, h20, ex19, hf⟩ := bnd2_eq hf
      refine v_call (pc := 45) (d_F (pc := 45) C (As := []) (rest := []) rb18 kb18 nt_19 q1561 q911 ⟨q910, ⟨by decide +kernel, by decide +kernel⟩⟩ q1028 q1030 q1031 q1029 q1027 (by decide +kernel) yk_J22_iterator rfl (by decide) (by decide) (Nat.le_trans aw_0 (by decide)) rfl (mJ22_iterator C.st ex19) dX1_heldShare_45) ?_
      refine v_astore (pc := 50) (lv' := [(5, false, va_rf x19), (4, false, va_rf (some h.1)), (0, false, va_rf a0), (1, false, .int a1), (2, false, .int a2), (3, false, .int a3)]) C dX1_heldShare_50 (by decide) rfl ?_
      exact V.sub [2, 3, 4, 5, 1, 0] rfl (vX1_heldShare_p52 X ih _ _ _ _ _ _ _ _ _ _ hf)
def fX1_heldShare (D : aD) (h : aH) (a0 : Option Nat) : Option (UInt32 × aH) :=
  fX1_heldShare_p6 D FU h a0 (0 : Int32) (0 : Int32) (0 : Int32)
theorem vX1_heldShare {h : aH} {a0 : Option Nat} {q : UInt32} {g : aH} (X : aX p l R s m meth c D n0 s0 yX1_heldShare cX1_heldShare 12 3140 7 (some .float) h0) (hf : fX1_heldShare D h a0 = some (q, g)) : V p l e R s m args below meth c D n0 s0 (aEnd D below args s h0 (.inr (some (.float q)), g)) h 0 [(0, false, va_rf a0)] [] := by
  have C := X.1
  unfold fX1_heldShare at hf
  refine v_iconst (pc := 0) (v := (0 : Int32)) C dX1_heldShare_0 rfl ?_
  refine v_istore_n (pc := 1) (lv' := [(1, false, .int (0 : Int32)), (0, false, va_rf a0)]) C dX1_heldShare_1 rfl (by decide) rfl ?_
  refine v_iconst (pc := 2) (v := (0 : Int32)) C dX1_heldShare_2 rfl ?_
  refine v_istore_n (pc := 3) (lv' := [(2, false, .int (0 : Int32)), (1, false, .int (0 : Int32)), (0, false, va_rf a0)]) C dX1_heldShare_3 rfl (by decide) rfl ?_
  refine v_iconst (pc := 4) (v := (0 : Int32)) C dX1_heldShare_4 rfl ?_
  refine v_istore_n (pc := 5) (lv' := [(3, false, .int (0 : Int32)), (2, false, .int (0 : Int32)), (1, false, .int (0 : Int32)), (0, false, va_rf a0)]) C dX1_heldShare_5 rfl (by decide) rfl ?_
  exact V.sub [3, 2, 1, 0] rfl (vX1_heldShare_p6 X _ _ _ _ _ _ _ _ hf)
theorem mX1_heldShare {l : Launch} {D : aD} {h : aH} {a0 : Option Nat} {q : UInt32} {g : aH} (hst : l.stackTraces = false) (hf : fX1_heldShare D h a0 = some (q, g)) : aM l D yX1_heldShare cX1_heldShare 7 (some .float) 12 3140 [va_rf a0] h (.inr (some (.float q)), g) :=
  aM.ofX [(false, va_rf a0)] rfl (ap_r ap_0) (by decide +kernel) hst (al_of (aw_r aw_0) (by decide)) fun p e s m args below meth c X => V.sub (lv' := [(0, false, va_rf a0)]) [0] rfl (vX1_heldShare X hf)
def fX1_seen (D : aD) (h : aH) (a0 : Option Nat) (a1 : Int32) (a2 : Int32) : Option ((Nat ⊕ Int32) × aH) :=
  (aIs h 0 a0).bind fun _ =>
  bndT (fX1_panel D h a0 a1) fun x2 h3 =>
  bndT (fX1_in D h3 a2 (0 : Int32) (63 : Int32)) fun x5 h6 =>
  (aIs h6 2 x2).bind fun _ =>
  bnd2 (fX3_seen D h6 x2 x5) fun x8 h9 =>
  some (.inr x8, h9)
theorem vX1_seen {h : aH} {a0 : Option Nat} {a1 : Int32} {a2 : Int32} {q : Nat ⊕ Int32} {g : aH} (X : aX p l R s m meth c D n0 s0 yX1_seen cX1_seen 8 3096 4 (some .int) h0) (hf : fX1_seen D h a0 a1 a2 = some (q, g)) : V p l e R s m args below meth c D n0 s0 (aEnd D below args s h0 (wI q, g)) h 0 [(0, false, va_rf a0), (1, false, .int a1), (2, false, .int a2)] [] := by
  have C := X.1
  unfold fX1_seen at hf
  refine v_aload_n (pc := 0) (j := 0) C dX1_seen_0 rfl rfl ?_
  refine v_iload_n (pc := 1) (j := 1) C dX1_seen_1 rfl rfl ?_
  obtain ⟨b1, eb1, hf⟩ := oB hf
  obtain ⟨rb1, _, kb1⟩ := aIs_eq eb1
  rcases bndT_eq hf with ⟨_, _, ex2, qx2⟩ | ⟨x2, h3, ex2, hf⟩
  · cases qx2; exact v_ofDx (pc := 2) C X.2.1 X.2.2.1 rfl X.2.2.2.2.1 (d_V (pc := 2) C (As := [.int a1]) (rest := []) rb1 kb1 nt_0 q1705 yi_X1_panel_FigureSurvey yk_X1_panel rfl (by decide) (by decide) (Nat.le_trans aw_0 (by decide)) rfl (mX1_panel C.st ex2) dX1_seen_2)
  refine v_call (pc := 2) (d_V (pc := 2) C (As := [.int a1]) (rest := []) rb1 kb1 nt_0 q1705 yi_X1_panel_FigureSurvey yk_X1_panel rfl (by decide) (by decide) (Nat.le_trans aw_0 (by decide)) rfl (mX1_panel C.st ex2) dX1_seen_2) ?_
  refine v_astore_n (pc := 5) (lv' := [(3, false, va_rf x2), (0, false, va_rf a0), (1, false, .int a1), (2, false, .int a2)]) C dX1_seen_5 rfl (by decide) rfl ?_
  refine v_aload_n (pc := 6) (j := 0) C dX1_seen_6 rfl rfl ?_
  refine v_iload_n (pc := 7) (j := 3) C dX1_seen_7 rfl rfl ?_
  refine v_iconst (pc := 8) (v := (0 : Int32)) C dX1_seen_8 rfl ?_
  refine v_bipush (pc := 9) (v := (63 : Int32)) C dX1_seen_9 rfl ?_
  rcases bndT_eq hf with ⟨_, _, ex5, qx5⟩ | ⟨x5, h6, ex5, hf⟩
  · cases qx5; exact v_ofDx (pc := 11) C X.2.1 X.2.2.1 rfl X.2.2.2.2.1 (d_S (pc := 11) C (As := [.int a2, .int (0 : Int32), .int (63 : Int32)]) (rest := [va_rf x2]) q1578 q1579 yk_X1_in rfl (by decide) (by decide) (Nat.le_trans (aw_r aw_0) (by decide)) rfl (mX1_in C.st ex5) dX1_seen_11)
  refine v_call (pc := 11) (d_S (pc := 11) C (As := [.int a2, .int (0 : Int32), .int (63 : Int32)]) (rest := [va_rf x2]) q1578 q1579 yk_X1_in rfl (by decide) (by decide) (Nat.le_trans (aw_r aw_0) (by decide)) rfl (mX1_in C.st ex5) dX1_seen_11) ?_
  obtain ⟨b7, eb7, hf⟩ := oB hf
  obtain ⟨rb7, _, kb7⟩ := aIs_eq eb7
  obtain ⟨x8, h9, ex8, hf⟩ := bnd2_eq hf
  refine v_call (pc := 14) (d_V (pc := 14) C (As := [.int x5]) (rest := []) rb7 kb7 nt_2 q1739 yi_X3_seen_FigureSurvey_Panel yk_X3_seen rfl (by decide) (by decide) (Nat.le_trans aw_0 (by decide)) rfl (mX3_seen C.st ex8) dX1_seen_14) ?_
  cases hf
  exact v_ireturn (pc := 17) C X.2.1 X.2.2.1 X.2.2.2.1 rfl dX1_seen_17
theorem mX1_seen {l : Launch} {D : aD} {h : aH} {a0 : Option Nat} {a1 : Int32} {a2 : Int32} {q : Nat ⊕ Int32} {g : aH} (hst : l.stackTraces = false) (hf : fX1_seen D h a0 a1 a2 = some (q, g)) : aM l D yX1_seen cX1_seen 4 (some .int) 8 3096 [va_rf a0, .int a1, .int a2] h (wI q, g) :=
  aM.ofX [(false, va_rf a0), (false, .int a1), (false, .int a2)] rfl (ap_r (ap_c rfl (ap_c rfl ap_0))) (by decide +kernel) hst (al_of (aw_r (aw_i (aw_i aw_0))) (by decide)) fun p e s m args below meth c X => V.sub (lv' := [(0, false, va_rf a0), (1, false, .int a1), (2, false, .int a2)]) [0, 1, 2] rfl (vX1_seen X hf)
def fX1_edges (D : aD) (h : aH) (a0 : Option Nat) (a1 : Int32) (a2 : Int32) : Option ((Nat ⊕ Int64) × aH) :=
  (aIs h 0 a0).bind fun _ =>
  bndT (fX1_panel D h a0 a1) fun x2 h3 =>
  bndT (fX1_in D h3 a2 (1 : Int32) (4 : Int32)) fun x5 h6 =>
  (aIs h6 2 x2).bind fun _ =>
  bnd2 (fX3_edges D h6 x2 x5) fun x8 h9 =>
  some (.inr x8, h9)
theorem vX1_edges {h : aH} {a0 : Option Nat} {a1 : Int32} {a2 : Int32} {q : Nat ⊕ Int64} {g : aH} (X : aX p l R s m meth c D n0 s0 yX1_edges cX1_edges 8 3120 4 (some .long) h0) (hf : fX1_edges D h a0 a1 a2 = some (q, g)) : V p l e R s m args below meth c D n0 s0 (aEnd D below args s h0 (wJ q, g)) h 0 [(0, false, va_rf a0), (1, false, .int a1), (2, false, .int a2)] [] := by
  have C := X.1
  unfold fX1_edges at hf
  refine v_aload_n (pc := 0) (j := 0) C dX1_edges_0 rfl rfl ?_
  refine v_iload_n (pc := 1) (j := 1) C dX1_edges_1 rfl rfl ?_
  obtain ⟨b1, eb1, hf⟩ := oB hf
  obtain ⟨rb1, _, kb1⟩ := aIs_eq eb1
  rcases bndT_eq hf with ⟨_, _, ex2, qx2⟩ | ⟨x2, h3, ex2, hf⟩
  · cases qx2; exact v_ofDx (pc := 2) C X.2.1 X.2.2.1 rfl X.2.2.2.2.1 (d_V (pc := 2) C (As := [.int a1]) (rest := []) rb1 kb1 nt_0 q1705 yi_X1_panel_FigureSurvey yk_X1_panel rfl (by decide) (by decide) (Nat.le_trans aw_0 (by decide)) rfl (mX1_panel C.st ex2) dX1_edges_2)
  refine v_call (pc := 2) (d_V (pc := 2) C (As := [.int a1]) (rest := []) rb1 kb1 nt_0 q1705 yi_X1_panel_FigureSurvey yk_X1_panel rfl (by decide) (by decide) (Nat.le_trans aw_0 (by decide)) rfl (mX1_panel C.st ex2) dX1_edges_2) ?_
  refine v_astore_n (pc := 5) (lv' := [(3, false, va_rf x2), (0, false, va_rf a0), (1, false, .int a1), (2, false, .int a2)]) C dX1_edges_5 rfl (by decide) rfl ?_
  refine v_aload_n (pc := 6) (j := 0) C dX1_edges_6 rfl rfl ?_
  refine v_iload_n (pc := 7) (j := 3) C dX1_edges_7 rfl rfl ?_
  refine v_iconst (pc := 8) (v := (1 : Int32)) C dX1_edges_8 rfl ?_
  refine v_iconst (pc := 9) (v := (4 : Int32)) C dX1_edges_9 rfl ?_
  rcases bndT_eq hf with ⟨_, _, ex5, qx5⟩ | ⟨x5, h6, ex5, hf⟩
  · cases qx5; exact v_ofDx (pc := 10) C X.2.1 X.2.2.1 rfl X.2.2.2.2.1 (d_S (pc := 10) C (As := [.int a2, .int (1 : Int32), .int (4 : Int32)]) (rest := [va_rf x2]) q1578 q1579 yk_X1_in rfl (by decide) (by decide) (Nat.le_trans (aw_r aw_0) (by decide)) rfl (mX1_in C.st ex5) dX1_edges_10)
  refine v_call (pc := 10) (d_S (pc := 10) C (As := [.int a2, .int (1 : Int32), .int (4 : Int32)]) (rest := [va_rf x2]) q1578 q1579 yk_X1_in rfl (by decide) (by decide) (Nat.le_trans (aw_r aw_0) (by decide)) rfl (mX1_in C.st ex5) dX1_edges_10) ?_
  obtain ⟨b7, eb7, hf⟩ := oB hf
  obtain ⟨rb7, _, kb7⟩ := aIs_eq eb7
  obtain ⟨x8, h9, ex8, hf⟩ := bnd2_eq hf
  refine v_call (pc := 13) (d_V (pc := 13) C (As := [.int x5]) (rest := []) rb7 kb7 nt_2 q1760 yi_X3_edges_FigureSurvey_Panel yk_X3_edges rfl (by decide) (by decide) (Nat.le_trans aw_0 (by decide)) rfl (mX3_edges C.st ex8) dX1_edges_13) ?_
  cases hf
  exact v_lreturn (pc := 16) C X.2.1 X.2.2.1 X.2.2.2.1 rfl dX1_edges_16
theorem mX1_edges {l : Launch} {D : aD} {h : aH} {a0 : Option Nat} {a1 : Int32} {a2 : Int32} {q : Nat ⊕ Int64} {g : aH} (hst : l.stackTraces = false) (hf : fX1_edges D h a0 a1 a2 = some (q, g)) : aM l D yX1_edges cX1_edges 4 (some .long) 8 3120 [va_rf a0, .int a1, .int a2] h (wJ q, g) :=
  aM.ofX [(false, va_rf a0), (false, .int a1), (false, .int a2)] rfl (ap_r (ap_c rfl (ap_c rfl ap_0))) (by decide +kernel) hst (al_of (aw_r (aw_i (aw_i aw_0))) (by decide)) fun p e s m args below meth c X => V.sub (lv' := [(0, false, va_rf a0), (1, false, .int a1), (2, false, .int a2)]) [0, 1, 2] rfl (vX1_edges X hf)
def fX1_count_L7_p22 (D : aD) (h : aH) (K4 : Int32 → (Option Nat) → Int32 → Int32 → Option (Int32)) (a0 : Int32) (a1 : Option Nat) (a2 : Int32) (a3 : Int32) : Option (Int32) :=
  K4 a0 a1 a2 (a3 + 1)
theorem vX1_count_L7_p22 {h : aH} {K4 : Int32 → (Option Nat) → Int32 → Int32 → Option (Int32)} {a0 : Int32} {a1 : Option Nat} {a2 : Int32} {a3 : Int32} {q : Int32} (X : aX p l R s m meth c D n0 s0 yX1_count cX1_count 5 107 4 (some .int) h0) (k4 : ∀ (a0 : Int32) (a1 : Option Nat) (a2 : Int32) (a3 : Int32) (q : Int32), K4 a0 a1 a2 a3 = some q → V p l e R s m args below meth c D n0 s0 (aEnd D below args s h0 (.inr (some (.int q)), h)) h 4 [(0, false, .int a0), (1, false, va_rf a1), (2, false, .int a2), (3, false, .int a3)] []) (hf : fX1_count_L7_p22 D h K4 a0 a1 a2 a3 = some q) : V p l e R s m args below meth c D n0 s0 (aEnd D below args s h0 (.inr (some (.int q)), h)) h 22 [(0, false, .int a0), (1, false, va_rf a1), (2, false, .int a2), (3, false, .int a3)] [] := by
  have C := X.1
  unfold fX1_count_L7_p22 at hf
  refine v_iinc (pc := 22) (j := 3) (v := (a3 + 1)) (lv' := [(3, false, .int (a3 + 1)), (0, false, .int a0), (1, false, va_rf a1), (2, false, .int a2)]) C dX1_count_22 rfl rfl (by decide) rfl ?_
  refine v_goto (pc := 25) (tgt := 4) C dX1_count_25 rfl ?_
  exact V.sub [1, 2, 3, 0] rfl (k4 _ _ _ _ _ hf)
def fX1_count_L7_p4 (D : aD) (h : aH) : Nat → Int32 → (Option Nat) → Int32 → Int32 → Option (Int32)
  | 0, _, _, _, _ => none
  | n + 1, a0, a1, a2, a3 =>
  if a0 ≤ a3 then
  (some a2)
  else
  (bnd2 ((aLam h 117 a1).bind lmAA) fun c2 c3 =>
  (aIs h 0 c2).bind fun _ =>
  (fX1_lambda_addFigure_1 D h c2 c3 a3).bind fun x4 =>
  (ckZ x4).bind fun _ =>
  fX1_count_L7_p22 D h (fX1_count_L7_p4 D h n) a0 a1 (if x4 = 0 then a2 else (a2 + 1)) a3)
theorem vX1_count_L7_p4 {h : aH} (X : aX p l R s m meth c D n0 s0 yX1_count cX1_count 5 107 4 (some .int) h0) : ∀ (n : Nat) (a0 : Int32) (a1 : Option Nat) (a2 : Int32) (a3 : Int32) (q : Int32), fX1_count_L7_p4 D h n a0 a1 a2 a3 = some q → V p l e R s m args below meth c D n0 s0 (aEnd D below args s h0 (.inr (some (.int q)), h)) h 4 [(0, false, .int a0), (1, false, va_rf a1), (2, false, .int a2), (3, false, .int a3)] [] := by
  have C := X.1
  intro n
  induction n with
  | zero =>
    intro _ _ _ _ _ hf
    rw [fX1_count_L7_p4] at hf
    cases hf
  | succ n ih =>
    intro a0 a1 a2 a3 q hf
    rw [fX1_count_L7_p4] at hf
    refine v_iload_n (pc := 4) (j := 3) C dX1_count_4 rfl rfl ?_
    refine v_iload_n (pc := 5) (j := 0) C dX1_count_5 rfl rfl ?_
    refine v_icmp_ge (pc := 6) (tgt := 28) C dX1_count_6 rfl (fun hc => ?_) (fun hc => ?_)
    · rw [if_pos hc] at hf
      refine v_iload_n (pc := 28) (j := 2) C dX1_count_28 rfl rfl ?_
      cases hf
      exact v_ireturn (pc := 29) C X.2.1 X.2.2.1 X.2.2.2.1 rfl dX1_count_29
    · rw [if_neg hc] at hf
      refine v_aload_n (pc := 9) (j := 1) C dX1_count_9 rfl rfl ?_
      refine v_iload_n (pc := 10) (j := 3) C dX1_count_10 rfl rfl ?_
      obtain ⟨c2, c3, eb1, hf⟩ := bnd2_eq hf
      obtain ⟨b1, rb1, kb1⟩ := lmAA_eq eb1
      obtain ⟨db1, fb1, hf⟩ := oB hf
      obtain ⟨rfl, _, gb1⟩ := aIs_eq fb1
      obtain ⟨x4, ex4, hf⟩ := oB hf
      obtain ⟨_, zx4, hf⟩ := oB hf
      refine v_call (pc := 11) (d_L (pc := 11) C (k := 7) (xs := [a3]) (As := [.int a3]) (rest := []) lkS_7 lok_7 (by decide +kernel) ⟨rfl, rfl, by decide +kernel⟩ q598 q600 ⟨q599, ⟨by decide +kernel, by decide +kernel⟩⟩ (show (parseMethodDescriptor "(I)Z").map (fun d => d.parameters.length) = some 1 by decide +kernel) rb1 kb1 rfl rfl (hWalkV lDec_7 (show 1 ≤ 3 by decide) (by decide) kb1 rfl gb1 nt_0 yi_X1_lambda_addFigure_1_FigureSurvey yk_X1_lambda_addFigure_1 rfl (mX1_lambda_addFigure_1 C.st ex4) (Or.inr ⟨rfl, ckZ_eq zx4⟩)) (by decide) (by decide) (Nat.le_trans aw_0 (by decide)) rfl dX1_count_11) ?_
      refine v_if_eq (pc := 16) (tgt := 22) C dX1_count_16 rfl (fun hc => ?_) (fun hc => ?_)
      · simp only [if_pos hc] at hf
        exact V.sub [0, 1, 2, 3] rfl (vX1_count_L7_p22 X ih hf)
      · simp only [if_neg hc] at hf
        refine v_iinc (pc := 19) (j := 2) (v := (a2 + 1)) (lv' := [(2, false, .int (a2 + 1)), (0, false, .int a0), (1, false, va_rf a1), (3, false, .int a3)]) C dX1_count_19 rfl rfl (by decide) rfl ?_
        exact V.sub [1, 2, 0, 3] rfl (vX1_count_L7_p22 X ih hf)
def fX1_count_L7 (D : aD) (h : aH) (a0 : Int32) (a1 : Option Nat) : Option (Int32) :=
  fX1_count_L7_p4 D h FU a0 a1 (0 : Int32) (0 : Int32)
theorem vX1_count_L7 {h : aH} {a0 : Int32} {a1 : Option Nat} {q : Int32} (X : aX p l R s m meth c D n0 s0 yX1_count cX1_count 5 107 4 (some .int) h0) (hf : fX1_count_L7 D h a0 a1 = some q) : V p l e R s m args below meth c D n0 s0 (aEnd D below args s h0 (.inr (some (.int q)), h)) h 0 [(0, false, .int a0), (1, false, va_rf a1)] [] := by
  have C := X.1
  unfold fX1_count_L7 at hf
  refine v_iconst (pc := 0) (v := (0 : Int32)) C dX1_count_0 rfl ?_
  refine v_istore_n (pc := 1) (lv' := [(2, false, .int (0 : Int32)), (0, false, .int a0), (1, false, va_rf a1)]) C dX1_count_1 rfl (by decide) rfl ?_
  refine v_iconst (pc := 2) (v := (0 : Int32)) C dX1_count_2 rfl ?_
  refine v_istore_n (pc := 3) (lv' := [(3, false, .int (0 : Int32)), (2, false, .int (0 : Int32)), (0, false, .int a0), (1, false, va_rf a1)]) C dX1_count_3 rfl (by decide) rfl ?_
  exact V.sub [2, 3, 1, 0] rfl (vX1_count_L7_p4 X _ _ _ _ _ _ hf)
theorem mX1_count_L7 {l : Launch} {D : aD} {h : aH} {a0 : Int32} {a1 : Option Nat} {q : Int32} (hst : l.stackTraces = false) (hf : fX1_count_L7 D h a0 a1 = some q) : aM l D yX1_count cX1_count 4 (some .int) 5 107 [.int a0, va_rf a1] h (.inr (some (.int q)), h) :=
  aM.ofX [(false, .int a0), (false, va_rf a1)] rfl (ap_c rfl (ap_r ap_0)) (by decide +kernel) hst (al_of (aw_i (aw_r aw_0)) (by decide)) fun p e s m args below meth c X => V.sub (lv' := [(0, false, .int a0), (1, false, va_rf a1)]) [0, 1] rfl (vX1_count_L7 X hf)
def fX1_addFigure_p45 (D : aD) (h : aH) (a0 : Option Nat) (a2 : Option Nat) (t0 : Int32) : Option ((Nat ⊕ Int32) × aH) :=
  bndT (fX1_must D h t0) fun _ h3 =>
  (gR h3 0 3 a0).bind fun x4 =>
  (aMk D h3 (4, dfX5)).bind fun h5 =>
  (gR h5 0 3 a0).bind fun x6 =>
  (aIs h5 15 x6).bind fun _ =>
  (fJ2_size D h5 x6).bind fun x8 =>
  (fX5_init D h5 (some h3.1) x8 a2).bind fun h12 =>
  (aIs h12 15 x4).bind fun _ =>
  bnd2 (fJ2_add D h12 x4 (some h3.1)) fun x14 h15 =>
  (gR h15 0 3 a0).bind fun x16 =>
  (aIs h15 15 x16).bind fun _ =>
  (fJ2_size D h15 x16).bind fun x18 =>
  some (.inr (x18 - (1 : Int32)), h15)
theorem vX1_addFigure_p45 {h : aH} {a0 : Option Nat} {a2 : Option Nat} {t0 : Int32} {q : Nat ⊕ Int32} {g : aH} (X : aX p l R s m meth c D n0 s0 yX1_addFigure cX1_addFigure 8 3075 3 (some .int) h0) (hf : fX1_addFigure_p45 D h a0 a2 t0 = some (q, g)) : V p l e R s m args below meth c D n0 s0 (aEnd D below args s h0 (wI q, g)) h 45 [(0, false, va_rf a0), (2, false, va_rf a2)] [.int t0] := by
  have C := X.1
  unfold fX1_addFigure_p45 at hf
  rcases bndT_eq hf with ⟨_, _, ex2, qx2⟩ | ⟨x2, h3, ex2, hf⟩
  · cases qx2; exact v_ofDx (pc := 45) C X.2.1 X.2.2.1 rfl X.2.2.2.2.1 (d_S (pc := 45) C (As := [.int t0]) (rest := []) q1595 q1596 yk_X1_must rfl (by decide) (by decide) (Nat.le_trans aw_0 (by decide)) rfl (mX1_must C.st ex2) dX1_addFigure_45)
  refine v_callU (pc := 45) (d_S (pc := 45) C (As := [.int t0]) (rest := []) q1595 q1596 yk_X1_must rfl (by decide) (by decide) (Nat.le_trans aw_0 (by decide)) rfl (mX1_must C.st ex2) dX1_addFigure_45) ?_
  refine v_aload_n (pc := 48) (j := 0) C dX1_addFigure_48 rfl rfl ?_
  obtain ⟨x4, ex4, hf⟩ := oB hf
  refine v_getF (pc := 49) C lk_X1_56 (gR_eq ex4) dX1_addFigure_49 ?_
  obtain ⟨h5, eh5, hf⟩ := oB hf
  refine v_new (pc := 52) (t := 4) (fs := dfX5) (T := TX5) (N := 7) C rfl in_X5 tyX5 tyX5_ok q514 q1805 q99 dfX5_ok rfl eh5 dX1_addFigure_52 ?_
  refine v_dup (pc := 55) C dX1_addFigure_55 (va_rfc _) ?_
  refine v_aload_n (pc := 56) (j := 0) C dX1_addFigure_56 rfl rfl ?_
  obtain ⟨x6, ex6, hf⟩ := oB hf
  refine v_getF (pc := 57) C lk_X1_56 (gR_eq ex6) dX1_addFigure_57 ?_
  obtain ⟨b7, eb7, hf⟩ := oB hf
  obtain ⟨rb7, _, kb7⟩ := aIs_eq eb7
  obtain ⟨x8, ex8, hf⟩ := oB hf
  refine v_call (pc := 60) (d_V (pc := 60) C (As := []) (rest := [va_rf (some h3.1), va_rf (some h3.1), va_rf x4]) rb7 kb7 nt_15 q375 yi_J2_size_java_util_ArrayList yk_J2_size rfl (by decide) (by decide) (Nat.le_trans (aw_r (aw_r (aw_r aw_0))) (by decide)) rfl (mJ2_size C.st ex8) dX1_addFigure_60) ?_
  refine v_aload_n (pc := 63) (j := 1) C dX1_addFigure_63 rfl rfl ?_
  obtain ⟨h12, ex11, hf⟩ := oB hf
  refine v_callU (pc := 64) (d_I (pc := 64) C (As := [.int x8, va_rf a2]) (rest := [va_rf (some h3.1), va_rf x4]) rfl rfl rfl q1806 q1807 yk_X5_init rfl (by decide) (by decide) (Nat.le_trans (aw_r (aw_r aw_0)) (by decide)) rfl (mX5_init C.st ex11) dX1_addFigure_64) ?_
  obtain ⟨b13, eb13, hf⟩ := oB hf
  obtain ⟨rb13, _, kb13⟩ := aIs_eq eb13
  obtain ⟨x14, h15, ex14, hf⟩ := bnd2_eq hf
  refine v_call (pc := 67) (d_V (pc := 67) C (As := [va_rf (some h3.1)]) (rest := []) rb13 kb13 nt_15 q1673 yi_J2_add_java_util_ArrayList yk_J2_add rfl (by decide) (by decide) (Nat.le_trans aw_0 (by decide)) rfl (mJ2_add C.st ex14) dX1_addFigure_67) ?_
  refine v_pop (pc := 70) C dX1_addFigure_70 rfl ?_
  refine v_aload_n (pc := 71) (j := 0) C dX1_addFigure_71 rfl rfl ?_
  obtain ⟨x16, ex16, hf⟩ := oB hf
  refine v_getF (pc := 72) C lk_X1_56 (gR_eq ex16) dX1_addFigure_72 ?_
  obtain ⟨b17, eb17, hf⟩ := oB hf
  obtain ⟨rb17, _, kb17⟩ := aIs_eq eb17
  obtain ⟨x18, ex18, hf⟩ := oB hf
  refine v_call (pc := 75) (d_V (pc := 75) C (As := []) (rest := []) rb17 kb17 nt_15 q375 yi_J2_size_java_util_ArrayList yk_J2_size rfl (by decide) (by decide) (Nat.le_trans aw_0 (by decide)) rfl (mJ2_size C.st ex18) dX1_addFigure_75) ?_
  refine v_iconst (pc := 78) (v := (1 : Int32)) C dX1_addFigure_78 rfl ?_
  refine v_isub (pc := 79) C dX1_addFigure_79 ?_
  cases hf
  exact v_ireturn (pc := 80) C X.2.1 X.2.2.1 X.2.2.2.1 rfl dX1_addFigure_80
def fX1_addFigure (D : aD) (h : aH) (a0 : Option Nat) (a1 : Int32) : Option ((Nat ⊕ Int32) × aH) :=
  (aIs h 0 a0).bind fun _ =>
  bndT (fX1_panel D h a0 a1) fun x2 h3 =>
  (gR h3 0 3 a0).bind fun x4 =>
  (aIs h3 15 x4).bind fun _ =>
  (fJ2_size D h3 x4).bind fun x6 =>
  if (24 : Int32) ≤ x6 then
  (fX1_addFigure_p45 D h3 a0 x2 (0 : Int32))
  else
  ((gR h3 0 3 a0).bind fun x8 =>
  (aIs h3 15 x8).bind fun _ =>
  (fJ2_size D h3 x8).bind fun x10 =>
  (aMk D h3 (117, [va_rf a0, va_rf x2])).bind fun h12 =>
  (fX1_count_L7 D h12 x10 (some h3.1)).bind fun x14 =>
  fX1_addFigure_p45 D h12 a0 x2 (if (8 : Int32) ≤ x14 then (0 : Int32) else (1 : Int32)))
theorem vX1_addFigure {h : aH} {a0 : Option Nat} {a1 : Int32} {q : Nat ⊕ Int32} {g : aH} (X : aX p l R s m meth c D n0 s0 yX1_addFigure cX1_addFigure 8 3075 3 (some .int) h0) (hf : fX1_addFigure D h a0 a1 = some (q, g)) : V p l e R s m args below meth c D n0 s0 (aEnd D below args s h0 (wI q, g)) h 0 [(0, false, va_rf a0), (1, false, .int a1)] [] := by
  have C := X.1
  unfold fX1_addFigure at hf
  refine v_aload_n (pc := 0) (j := 0) C dX1_addFigure_0 rfl rfl ?_
  refine v_iload_n (pc := 1) (j := 1) C dX1_addFigure_1 rfl rfl ?_
  obtain ⟨b1, eb1, hf⟩ := oB hf
  obtain ⟨rb1, _, kb1⟩ := aIs_eq eb1
  rcases bndT_eq hf with ⟨_, _, ex2, qx2⟩ | ⟨x2, h3, ex2, hf⟩
  · cases qx2; exact v_ofDx (pc := 2) C X.2.1 X.2.2.1 rfl X.2.2.2.2.1 (d_V (pc := 2) C (As := [.int a1]) (rest := []) rb1 kb1 nt_0 q1705 yi_X1_panel_FigureSurvey yk_X1_panel rfl (by decide) (by decide) (Nat.le_trans aw_0 (by decide)) rfl (mX1_panel C.st ex2) dX1_addFigure_2)
  refine v_call (pc := 2) (d_V (pc := 2) C (As := [.int a1]) (rest := []) rb1 kb1 nt_0 q1705 yi_X1_panel_FigureSurvey yk_X1_panel rfl (by decide) (by decide) (Nat.le_trans aw_0 (by decide)) rfl (mX1_panel C.st ex2) dX1_addFigure_2) ?_
  refine v_astore_n (pc := 5) (lv' := [(2, false, va_rf x2), (0, false, va_rf a0), (1, false, .int a1)]) C dX1_addFigure_5 rfl (by decide) rfl ?_
  refine v_aload_n (pc := 6) (j := 1) C dX1_addFigure_6 rfl rfl ?_
  obtain ⟨x4, ex4, hf⟩ := oB hf
  refine v_getF (pc := 7) C lk_X1_56 (gR_eq ex4) dX1_addFigure_7 ?_
  obtain ⟨b5, eb5, hf⟩ := oB hf
  obtain ⟨rb5, _, kb5⟩ := aIs_eq eb5
  obtain ⟨x6, ex6, hf⟩ := oB hf
  refine v_call (pc := 10) (d_V (pc := 10) C (As := []) (rest := []) rb5 kb5 nt_15 q375 yi_J2_size_java_util_ArrayList yk_J2_size rfl (by decide) (by decide) (Nat.le_trans aw_0 (by decide)) rfl (mJ2_size C.st ex6) dX1_addFigure_10) ?_
  refine v_bipush (pc := 13) (v := (24 : Int32)) C dX1_addFigure_13 rfl ?_
  refine v_icmp_ge (pc := 15) (tgt := 44) C dX1_addFigure_15 rfl (fun hc => ?_) (fun hc => ?_)
  · rw [if_pos hc] at hf
    refine v_iconst (pc := 44) (v := (0 : Int32)) C dX1_addFigure_44 rfl ?_
    exact V.sub [1, 0] rfl (vX1_addFigure_p45 X hf)
  · rw [if_neg hc] at hf
    refine v_aload_n (pc := 18) (j := 1) C dX1_addFigure_18 rfl rfl ?_
    obtain ⟨x8, ex8, hf⟩ := oB hf
    refine v_getF (pc := 19) C lk_X1_56 (gR_eq ex8) dX1_addFigure_19 ?_
    obtain ⟨b9, eb9, hf⟩ := oB hf
    obtain ⟨rb9, _, kb9⟩ := aIs_eq eb9
    obtain ⟨x10, ex10, hf⟩ := oB hf
    refine v_call (pc := 22) (d_V (pc := 22) C (As := []) (rest := []) rb9 kb9 nt_15 q375 yi_J2_size_java_util_ArrayList yk_J2_size rfl (by decide) (by decide) (Nat.le_trans aw_0 (by decide)) rfl (mJ2_size C.st ex10) dX1_addFigure_22) ?_
    refine v_aload_n (pc := 25) (j := 1) C dX1_addFigure_25 rfl rfl ?_
    refine v_aload_n (pc := 26) (j := 0) C dX1_addFigure_26 rfl rfl ?_
    obtain ⟨h12, eh12, hf⟩ := oB hf
    refine v_lam (pc := 27) (k := 7) (vals := [va_rf a0, va_rf x2]) (rest := [.int x10]) C X.2.2.2.2.2.2 lkS_7 lok_7 rfl (lvl_c rfl ft_o (lvl_c rfl ft_o lvl_0)) rfl eh12 (Nat.le_trans (Nat.add_le_add_right (aw_r (aw_r (aw_i aw_0))) _) (by decide)) dX1_addFigure_27 ?_
    obtain ⟨x14, ex14, hf⟩ := oB hf
    refine v_call (pc := 32) (d_S (pc := 32) C (As := [.int x10, va_rf (some h3.1)]) (rest := []) q601 q595 yk_X1_count rfl (by decide) (by decide) (Nat.le_trans aw_0 (by decide)) rfl (mX1_count_L7 C.st ex14) dX1_addFigure_32) ?_
    refine v_bipush (pc := 35) (v := (8 : Int32)) C dX1_addFigure_35 rfl ?_
    refine v_icmp_ge (pc := 37) (tgt := 44) C dX1_addFigure_37 rfl (fun hc => ?_) (fun hc => ?_)
    · simp only [if_pos hc] at hf
      refine v_iconst (pc := 44) (v := (0 : Int32)) C dX1_addFigure_44 rfl ?_
      exact V.sub [1, 0] rfl (vX1_addFigure_p45 X hf)
    · simp only [if_neg hc] at hf
      refine v_iconst (pc := 40) (v := (1 : Int32)) C dX1_addFigure_40 rfl ?_
      refine v_goto (pc := 41) (tgt := 45) C dX1_addFigure_41 rfl ?_
      exact V.sub [1, 0] rfl (vX1_addFigure_p45 X hf)
theorem mX1_addFigure {l : Launch} {D : aD} {h : aH} {a0 : Option Nat} {a1 : Int32} {q : Nat ⊕ Int32} {g : aH} (hst : l.stackTraces = false) (hf : fX1_addFigure D h a0 a1 = some (q, g)) : aM l D yX1_addFigure cX1_addFigure 3 (some .int) 8 3075 [va_rf a0, .int a1] h (wI q, g) :=
  aM.ofX [(false, va_rf a0), (false, .int a1)] rfl (ap_r (ap_c rfl ap_0)) (by decide +kernel) hst (al_of (aw_r (aw_i aw_0)) (by decide)) fun p e s m args below meth c X => V.sub (lv' := [(0, false, va_rf a0), (1, false, .int a1)]) [0, 1] rfl (vX1_addFigure X hf)
def fX1_foundShare (D : aD) (h : aH) (a0 : Option Nat) (a1 : Int32) : Option ((Nat ⊕ Int32) × aH) :=
  (aIs h 0 a0).bind fun _ =>
  bndT (fX1_figure D h a0 a1) fun x2 h3 =>
  (aIs h3 4 x2).bind fun _ =>
  (fX5_cells D h3 x2).bind fun x5 =>
  if (lg_cmp x5 (0 : Int64)) = 0 then
  (some (.inr (0 : Int32), h3))
  else
  ((gR h3 4 1 x2).bind fun x7 =>
  (aIs h3 2 x7).bind fun _ =>
  bnd2 (fX3_edges D h3 x7 (1 : Int32)) fun x9 h10 =>
  (fJ21_bitCount D h10 (x5 &&& x9)).bind fun x12 =>
  (fJ21_bitCount D h10 x5).bind fun x15 =>
  (ckN x15).bind fun _ =>
  some (.inr (((1000 : Int32) * x12) / x15), h10))
theorem vX1_foundShare {h : aH} {a0 : Option Nat} {a1 : Int32} {q : Nat ⊕ Int32} {g : aH} (X : aX p l R s m meth c D n0 s0 yX1_foundShare cX1_foundShare 8 3120 5 (some .int) h0) (hf : fX1_foundShare D h a0 a1 = some (q, g)) : V p l e R s m args below meth c D n0 s0 (aEnd D below args s h0 (wI q, g)) h 0 [(0, false, va_rf a0), (1, false, .int a1)] [] := by
  have C := X.1
  unfold fX1_foundShare at hf
  refine v_aload_n (pc := 0) (j := 0) C dX1_foundShare_0 rfl rfl ?_
  refine v_iload_n (pc := 1) (j := 1) C dX1_foundShare_1 rfl rfl ?_
  obtain ⟨b1, eb1, hf⟩ := oB hf
  obtain ⟨rb1, _, kb1⟩ := aIs_eq eb1
  rcases bndT_eq hf with ⟨_, _, ex2, qx2⟩ | ⟨x2, h3, ex2, hf⟩
  · cases qx2; exact v_ofDx (pc := 2) C X.2.1 X.2.2.1 rfl X.2.2.2.2.1 (d_V (pc := 2) C (As := [.int a1]) (rest := []) rb1 kb1 nt_0 q1849 yi_X1_figure_FigureSurvey yk_X1_figure rfl (by decide) (by decide) (Nat.le_trans aw_0 (by decide)) rfl (mX1_figure C.st ex2) dX1_foundShare_2)
  refine v_call (pc := 2) (d_V (pc := 2) C (As := [.int a1]) (rest := []) rb1 kb1 nt_0 q1849 yi_X1_figure_FigureSurvey yk_X1_figure rfl (by decide) (by decide) (Nat.le_trans aw_0 (by decide)) rfl (mX1_figure C.st ex2) dX1_foundShare_2) ?_
  refine v_astore_n (pc := 5) (lv' := [(2, false, va_rf x2), (0, false, va_rf a0), (1, false, .int a1)]) C dX1_foundShare_5 rfl (by decide) rfl ?_
  refine v_aload_n (pc := 6) (j := 0) C dX1_foundShare_6 rfl rfl ?_
  obtain ⟨b4, eb4, hf⟩ := oB hf
  obtain ⟨rb4, _, kb4⟩ := aIs_eq eb4
  obtain ⟨x5, ex5, hf⟩ := oB hf
  refine v_call (pc := 7) (d_V (pc := 7) C (As := []) (rest := []) rb4 kb4 nt_4 q1878 yi_X5_cells_FigureSurvey_Figure yk_X5_cells rfl (by decide) (by decide) (Nat.le_trans aw_0 (by decide)) rfl (mX5_cells C.st ex5) dX1_foundShare_7) ?_
  refine v_lstore_n (pc := 10) (lv' := [(3, true, .long x5), (2, false, va_rf x2), (0, false, va_rf a0), (1, false, .int a1)]) C dX1_foundShare_10 rfl (by decide) rfl ?_
  refine v_lload_n (pc := 11) (j := 0) C dX1_foundShare_11 rfl rfl ?_
  refine v_lconst (pc := 12) (v := (0 : Int64)) C dX1_foundShare_12 rfl ?_
  refine v_lcmp (pc := 13) C dX1_foundShare_13 ?_
  refine v_if_ne (pc := 14) (tgt := 21) C dX1_foundShare_14 rfl (fun hc => ?_) (fun hc => ?_)
  · rw [if_neg hc] at hf
    refine v_sipush (pc := 21) (v := (1000 : Int32)) C dX1_foundShare_21 rfl ?_
    refine v_lload_n (pc := 24) (j := 0) C dX1_foundShare_24 rfl rfl ?_
    refine v_aload_n (pc := 25) (j := 1) C dX1_foundShare_25 rfl rfl ?_
    obtain ⟨x7, ex7, hf⟩ := oB hf
    refine v_getF (pc := 26) C lk_X1_31 (gR_eq ex7) dX1_foundShare_26 ?_
    refine v_iconst (pc := 29) (v := (1 : Int32)) C dX1_foundShare_29 rfl ?_
    obtain ⟨b8, eb8, hf⟩ := oB hf
    obtain ⟨rb8, _, kb8⟩ := aIs_eq eb8
    obtain ⟨x9, h10, ex9, hf⟩ := bnd2_eq hf
    refine v_call (pc := 30) (d_V (pc := 30) C (As := [.int (1 : Int32)]) (rest := [.long x5, .int (1000 : Int32)]) rb8 kb8 nt_2 q1760 yi_X3_edges_FigureSurvey_Panel yk_X3_edges rfl (by decide) (by decide) (Nat.le_trans (aw_l (aw_i aw_0)) (by decide)) rfl (mX3_edges C.st ex9) dX1_foundShare_30) ?_
    refine v_land (pc := 33) C dX1_foundShare_33 ?_
    obtain ⟨x12, ex12, hf⟩ := oB hf
    refine v_call (pc := 34) (d_S (pc := 34) C (As := [.long (x5 &&& x9)]) (rest := [.int (1000 : Int32)]) q1886 q558 yk_J21_bitCount rfl (by decide) (by decide) (Nat.le_trans (aw_i aw_0) (by decide)) rfl (mJ21_bitCount C.st ex12) dX1_foundShare_34) ?_
    refine v_imul (pc := 37) C dX1_foundShare_37 ?_
    refine v_lload_n (pc := 38) (j := 0) C dX1_foundShare_38 rfl rfl ?_
    obtain ⟨x15, ex15, hf⟩ := oB hf
    refine v_call (pc := 39) (d_S (pc := 39) C (As := [.long x5]) (rest := [.int ((1000 : Int32) * x12)]) q1886 q558 yk_J21_bitCount rfl (by decide) (by decide) (Nat.le_trans (aw_i aw_0) (by decide)) rfl (mJ21_bitCount C.st ex15) dX1_foundShare_39) ?_
    obtain ⟨_, e17, hf⟩ := oB hf
    refine v_idiv (pc := 42) C dX1_foundShare_42 (ckN_eq e17) ?_
    cases hf
    exact v_ireturn (pc := 43) C X.2.1 X.2.2.1 X.2.2.2.1 rfl dX1_foundShare_43
  · rw [if_pos (Decidable.of_not_not hc)] at hf
    refine v_iconst (pc := 17) (v := (0 : Int32)) C dX1_foundShare_17 rfl ?_
    refine v_goto (pc := 18) (tgt := 43) C dX1_foundShare_18 rfl ?_
    cases hf
    exact v_ireturn (pc := 43) C X.2.1 X.2.2.1 X.2.2.2.1 rfl dX1_foundShare_43
theorem mX1_foundShare {l : Launch} {D : aD} {h : aH} {a0 : Option Nat} {a1 : Int32} {q : Nat ⊕ Int32} {g : aH} (hst : l.stackTraces = false) (hf : fX1_foundShare D h a0 a1 = some (q, g)) : aM l D yX1_foundShare cX1_foundShare 5 (some .int) 8 3120 [va_rf a0, .int a1] h (wI q, g) :=
  aM.ofX [(false, va_rf a0), (false, .int a1)] rfl (ap_r (ap_c rfl ap_0)) (by decide +kernel) hst (al_of (aw_r (aw_i aw_0)) (by decide)) fun p e s m args below meth c X => V.sub (lv' := [(0, false, va_rf a0), (1, false, .int a1)]) [0, 1] rfl (vX1_foundShare X hf)
def fX1_mark (D : aD) (h : aH) (a0 : Option Nat) (a1 : Int32) (a2 : Int32) : Option ((Nat ⊕ Int32) × aH) :=
  (aIs h 0 a0).bind fun _ =>
  bndT (fX1_figure D h a0 a1) fun x2 h3 =>
  (gI h3 4 5 x2).bind fun x4 =>
  bndT (fX1_in D h3 a2 (1 : Int32) (9 : Int32)) fun x6 h7 =>
  (pF D h7 4 5 x2 (.int (x4 + x6))).bind fun h8 =>
  (aIs h8 4 x2).bind fun _ =>
  bnd2 (fX5_doubt D h8 x2) fun x10 h11 =>
  some (.inr x10, h11)
theorem vX1_mark {h : aH} {a0 : Option Nat} {a1 : Int32} {a2 : Int32} {q : Nat ⊕ Int32} {g : aH} (X : aX p l R s m meth c D n0 s0 yX1_mark cX1_mark 10 3096 4 (some .int) h0) (hf : fX1_mark D h a0 a1 a2 = some (q, g)) : V p l e R s m args below meth c D n0 s0 (aEnd D below args s h0 (wI q, g)) h 0 [(0, false, va_rf a0), (1, false, .int a1), (2, false, .int a2)] [] := by
  have C := X.1
  unfold fX1_mark at hf
  refine v_aload_n (pc := 0) (j := 0) C dX1_mark_0 rfl rfl ?_
  refine v_iload_n (pc := 1) (j := 1) C dX1_mark_1 rfl rfl ?_
  obtain ⟨b1, eb1, hf⟩ := oB hf
  obtain ⟨rb1, _, kb1⟩ := aIs_eq eb1
  rcases bndT_eq hf with ⟨_, _, ex2, qx2⟩ | ⟨x2, h3, ex2, hf⟩
  · cases qx2; exact v_ofDx (pc := 2) C X.2.1 X.2.2.1 rfl X.2.2.2.2.1 (d_V (pc := 2) C (As := [.int a1]) (rest := []) rb1 kb1 nt_0 q1849 yi_X1_figure_FigureSurvey yk_X1_figure rfl (by decide) (by decide) (Nat.le_trans aw_0 (by decide)) rfl (mX1_figure C.st ex2) dX1_mark_2)
  refine v_call (pc := 2) (d_V (pc := 2) C (As := [.int a1]) (rest := []) rb1 kb1 nt_0 q1849 yi_X1_figure_FigureSurvey yk_X1_figure rfl (by decide) (by decide) (Nat.le_trans aw_0 (by decide)) rfl (mX1_figure C.st ex2) dX1_mark_2) ?_
  refine v_astore_n (pc := 5) (lv' := [(3, false, va_rf x2), (0, false, va_rf a0), (1, false, .int a1), (2, false, .int a2)]) C dX1_mark_5 rfl (by decide) rfl ?_
  refine v_aload_n (pc := 6) (j := 0) C dX1_mark_6 rfl rfl ?_
  refine v_dup (pc := 7) C dX1_mark_7 (va_rfc _) ?_
  obtain ⟨x4, ex4, hf⟩ := oB hf
  refine v_getF (pc := 8) C lk_X1_277 (gI_eq ex4) dX1_mark_8 ?_
  refine v_iload_n (pc := 11) (j := 3) C dX1_mark_11 rfl rfl ?_
  refine v_iconst (pc := 12) (v := (1 : Int32)) C dX1_mark_12 rfl ?_
  refine v_bipush (pc := 13) (v := (9 : Int32)) C dX1_mark_13 rfl ?_
  rcases bndT_eq hf with ⟨_, _, ex6, qx6⟩ | ⟨x6, h7, ex6, hf⟩
  · cases qx6; exact v_ofDx (pc := 15) C X.2.1 X.2.2.1 rfl X.2.2.2.2.1 (d_S (pc := 15) C (As := [.int a2, .int (1 : Int32), .int (9 : Int32)]) (rest := [.int x4, va_rf x2]) q1578 q1579 yk_X1_in rfl (by decide) (by decide) (Nat.le_trans (aw_i (aw_r aw_0)) (by decide)) rfl (mX1_in C.st ex6) dX1_mark_15)
  refine v_call (pc := 15) (d_S (pc := 15) C (As := [.int a2, .int (1 : Int32), .int (9 : Int32)]) (rest := [.int x4, va_rf x2]) q1578 q1579 yk_X1_in rfl (by decide) (by decide) (Nat.le_trans (aw_i (aw_r aw_0)) (by decide)) rfl (mX1_in C.st ex6) dX1_mark_15) ?_
  refine v_iadd (pc := 18) C dX1_mark_18 ?_
  obtain ⟨h8, eh8, hf⟩ := oB hf
  refine v_putF (pc := 19) C lk_X1_277 tyX5 tyX5_ok nmX5 (tyX5_ok 5 (by decide)) rfl rfl eh8 dX1_mark_19 ?_
  refine v_aload_n (pc := 22) (j := 0) C dX1_mark_22 rfl rfl ?_
  obtain ⟨b9, eb9, hf⟩ := oB hf
  obtain ⟨rb9, _, kb9⟩ := aIs_eq eb9
  obtain ⟨x10, h11, ex10, hf⟩ := bnd2_eq hf
  refine v_call (pc := 23) (d_V (pc := 23) C (As := []) (rest := []) rb9 kb9 nt_4 q1978 yi_X5_doubt_FigureSurvey_Figure yk_X5_doubt rfl (by decide) (by decide) (Nat.le_trans aw_0 (by decide)) rfl (mX5_doubt C.st ex10) dX1_mark_23) ?_
  cases hf
  exact v_ireturn (pc := 26) C X.2.1 X.2.2.1 X.2.2.2.1 rfl dX1_mark_26
theorem mX1_mark {l : Launch} {D : aD} {h : aH} {a0 : Option Nat} {a1 : Int32} {a2 : Int32} {q : Nat ⊕ Int32} {g : aH} (hst : l.stackTraces = false) (hf : fX1_mark D h a0 a1 a2 = some (q, g)) : aM l D yX1_mark cX1_mark 4 (some .int) 10 3096 [va_rf a0, .int a1, .int a2] h (wI q, g) :=
  aM.ofX [(false, va_rf a0), (false, .int a1), (false, .int a2)] rfl (ap_r (ap_c rfl (ap_c rfl ap_0))) (by decide +kernel) hst (al_of (aw_r (aw_i (aw_i aw_0))) (by decide)) fun p e s m args below meth c X => V.sub (lv' := [(0, false, va_rf a0), (1, false, .int a1), (2, false, .int a2)]) [0, 1, 2] rfl (vX1_mark X hf)
def fX1_doubtOf (D : aD) (h : aH) (a0 : Option Nat) (a1 : Int32) : Option ((Nat ⊕ Int32) × aH) :=
  (aIs h 0 a0).bind fun _ =>
  bndT (fX1_figure D h a0 a1) fun x2 h3 =>
  (aIs h3 4 x2).bind fun _ =>
  bnd2 (fX5_doubt D h3 x2) fun x5 h6 =>
  some (.inr x5, h6)
theorem vX1_doubtOf {h : aH} {a0 : Option Nat} {a1 : Int32} {q : Nat ⊕ Int32} {g : aH} (X : aX p l R s m meth c D n0 s0 yX1_doubtOf cX1_doubtOf 10 3096 2 (some .int) h0) (hf : fX1_doubtOf D h a0 a1 = some (q, g)) : V p l e R s m args below meth c D n0 s0 (aEnd D below args s h0 (wI q, g)) h 0 [(0, false, va_rf a0), (1, false, .int a1)] [] := by
  have C := X.1
  unfold fX1_doubtOf at hf
  refine v_aload_n (pc := 0) (j := 0) C dX1_doubtOf_0 rfl rfl ?_
  refine v_iload_n (pc := 1) (j := 1) C dX1_doubtOf_1 rfl rfl ?_
  obtain ⟨b1, eb1, hf⟩ := oB hf
  obtain ⟨rb1, _, kb1⟩ := aIs_eq eb1
  rcases bndT_eq hf with ⟨_, _, ex2, qx2⟩ | ⟨x2, h3, ex2, hf⟩
  · cases qx2; exact v_ofDx (pc := 2) C X.2.1 X.2.2.1 rfl X.2.2.2.2.1 (d_V (pc := 2) C (As := [.int a1]) (rest := []) rb1 kb1 nt_0 q1849 yi_X1_figure_FigureSurvey yk_X1_figure rfl (by decide) (by decide) (Nat.le_trans aw_0 (by decide)) rfl (mX1_figure C.st ex2) dX1_doubtOf_2)
  refine v_call (pc := 2) (d_V (pc := 2) C (As := [.int a1]) (rest := []) rb1 kb1 nt_0 q1849 yi_X1_figure_FigureSurvey yk_X1_figure rfl (by decide) (by decide) (Nat.le_trans aw_0 (by decide)) rfl (mX1_figure C.st ex2) dX1_doubtOf_2) ?_
  obtain ⟨b4, eb4, hf⟩ := oB hf
  obtain ⟨rb4, _, kb4⟩ := aIs_eq eb4
  obtain ⟨x5, h6, ex5, hf⟩ := bnd2_eq hf
  refine v_call (pc := 5) (d_V (pc := 5) C (As := []) (rest := []) rb4 kb4 nt_4 q1978 yi_X5_doubt_FigureSurvey_Figure yk_X5_doubt rfl (by decide) (by decide) (Nat.le_trans aw_0 (by decide)) rfl (mX5_doubt C.st ex5) dX1_doubtOf_5) ?_
  cases hf
  exact v_ireturn (pc := 8) C X.2.1 X.2.2.1 X.2.2.2.1 rfl dX1_doubtOf_8
theorem mX1_doubtOf {l : Launch} {D : aD} {h : aH} {a0 : Option Nat} {a1 : Int32} {q : Nat ⊕ Int32} {g : aH} (hst : l.stackTraces = false) (hf : fX1_doubtOf D h a0 a1 = some (q, g)) : aM l D yX1_doubtOf cX1_doubtOf 2 (some .int) 10 3096 [va_rf a0, .int a1] h (wI q, g) :=
  aM.ofX [(false, va_rf a0), (false, .int a1)] rfl (ap_r (ap_c rfl ap_0)) (by decide +kernel) hst (al_of (aw_r (aw_i aw_0)) (by decide)) fun p e s m args below meth c X => V.sub (lv' := [(0, false, va_rf a0), (1, false, .int a1)]) [0, 1] rfl (vX1_doubtOf X hf)
def fX1_tell (D : aD) (h : aH) (a0 : Option Nat) (a1 : Option Nat) : Option (Int32 × aH) :=
  (gR h 0 5 a0).bind fun x1 =>
  (gI h 7 0 a1).bind fun x2 =>
  bnd2 (fJ19_valueOf D h x2) fun x4 h5 =>
  (aIs h5 16 x1).bind fun _ =>
  bnd2 (fJ4_put D h5 x1 x4 a1) fun x7 h8 =>
  (aCast h8 [7] x7).bind fun _ =>
  (gI h8 0 6 a0).bind fun x10 =>
  (pF D h8 0 6 a0 (.int (x10 + (1 : Int32)))).bind fun h11 =>
  some (x10, h11)
theorem vX1_tell {h : aH} {a0 : Option Nat} {a1 : Option Nat} {q : Int32} {g : aH} (X : aX p l R s m meth c D n0 s0 yX1_tell cX1_tell 21 3343 3 (some .int) h0) (hf : fX1_tell D h a0 a1 = some (q, g)) : V p l e R s m args below meth c D n0 s0 (aEnd D below args s h0 (.inr (some (.int q)), g)) h 0 [(0, false, va_rf a0), (1, false, va_rf a1)] [] := by
  have C := X.1
  unfold fX1_tell at hf
  refine v_aload_n (pc := 0) (j := 0) C dX1_tell_0 rfl rfl ?_
  obtain ⟨x1, ex1, hf⟩ := oB hf
  refine v_getF (pc := 1) C lk_X1_65 (gR_eq ex1) dX1_tell_1 ?_
  refine v_aload_n (pc := 4) (j := 1) C dX1_tell_4 rfl rfl ?_
  obtain ⟨x2, ex2, hf⟩ := oB hf
  refine v_getF (pc := 5) C lk_X1_309 (gI_eq ex2) dX1_tell_5 ?_
  obtain ⟨x4, h5, ex4, hf⟩ := bnd2_eq hf
  refine v_call (pc := 8) (d_S (pc := 8) C (As := [.int x2]) (rest := [va_rf x1]) q2059 q2060 yk_J19_valueOf rfl (by decide) (by decide) (Nat.le_trans (aw_r aw_0) (by decide)) rfl (mJ19_valueOf C.st ex4) dX1_tell_8) ?_
  refine v_aload_n (pc := 11) (j := 1) C dX1_tell_11 rfl rfl ?_
  obtain ⟨b6, eb6, hf⟩ := oB hf
  obtain ⟨rb6, _, kb6⟩ := aIs_eq eb6
  obtain ⟨x7, h8, ex7, hf⟩ := bnd2_eq hf
  refine v_call (pc := 12) (d_V (pc := 12) C (As := [va_rf x4, va_rf a1]) (rest := []) rb6 kb6 nt_16 q2078 yi_J4_put_java_util_TreeMap yk_J4_put rfl (by decide) (by decide) (Nat.le_trans aw_0 (by decide)) rfl (mJ4_put C.st ex7) dX1_tell_12) ?_
  obtain ⟨_, e9, hf⟩ := oB hf
  refine v_cast (pc := 15) C q1566 ct_FigureSurvey_Finding e9 dX1_tell_15 ?_
  refine v_astore_n (pc := 18) (lv' := [(2, false, va_rf x7), (0, false, va_rf a0), (1, false, va_rf a1)]) C dX1_tell_18 rfl (by decide) rfl ?_
  refine v_aload_n (pc := 19) (j := 1) C dX1_tell_19 rfl rfl ?_
  refine v_dup (pc := 20) C dX1_tell_20 (va_rfc _) ?_
  obtain ⟨x10, ex10, hf⟩ := oB hf
  refine v_getF (pc := 21) C lk_X1_316 (gI_eq ex10) dX1_tell_21 ?_
  refine v_dup_x1 (pc := 24) C dX1_tell_24 rfl (va_rfc _) ?_
  refine v_iconst (pc := 25) (v := (1 : Int32)) C dX1_tell_25 rfl ?_
  refine v_iadd (pc := 26) C dX1_tell_26 ?_
  obtain ⟨h11, eh11, hf⟩ := oB hf
  refine v_putF (pc := 27) C lk_X1_316 tyX1 tyX1_ok nmX1 (tyX1_ok 6 (by decide)) rfl rfl eh11 dX1_tell_27 ?_
  cases hf
  exact v_ireturn (pc := 30) C X.2.1 X.2.2.1 X.2.2.2.1 rfl dX1_tell_30
theorem mX1_tell {l : Launch} {D : aD} {h : aH} {a0 : Option Nat} {a1 : Option Nat} {q : Int32} {g : aH} (hst : l.stackTraces = false) (hf : fX1_tell D h a0 a1 = some (q, g)) : aM l D yX1_tell cX1_tell 3 (some .int) 21 3343 [va_rf a0, va_rf a1] h (.inr (some (.int q)), g) :=
  aM.ofX [(false, va_rf a0), (false, va_rf a1)] rfl (ap_r (ap_r ap_0)) (by decide +kernel) hst (al_of (aw_r (aw_r aw_0)) (by decide)) fun p e s m args below meth c X => V.sub (lv' := [(0, false, va_rf a0), (1, false, va_rf a1)]) [0, 1] rfl (vX1_tell X hf)
def fX1_findOver_p79 (D : aD) (h : aH) (a0 : Option Nat) (a3 : Int32) (a4 : Option Nat) (a5 : Option Nat) (t0 : Int32) : Option ((Nat ⊕ Int32) × aH) :=
  bndT (fX1_must D h t0) fun _ h3 =>
  (aMk D h3 (7, dfX8)).bind fun h4 =>
  (fX8_init D h4 (some h3.1) a0 (0 : Int32) a4 a5 (0 : Int32) a3).bind fun h7 =>
  (aIs h7 0 a0).bind fun _ =>
  bnd2 (fX1_tell D h7 a0 (some h3.1)) fun x9 h10 =>
  some (.inr x9, h10)
theorem vX1_findOver_p79 {h : aH} {a0 : Option Nat} {a3 : Int32} {a4 : Option Nat} {a5 : Option Nat} {t0 : Int32} {q : Nat ⊕ Int32} {g : aH} (X : aX p l R s m meth c D n0 s0 yX1_findOver cX1_findOver 22 3365 6 (some .int) h0) (hf : fX1_findOver_p79 D h a0 a3 a4 a5 t0 = some (q, g)) : V p l e R s m args below meth c D n0 s0 (aEnd D below args s h0 (wI q, g)) h 79 [(0, false, va_rf a0), (3, false, .int a3), (4, false, va_rf a4), (5, false, va_rf a5)] [.int t0] := by
  have C := X.1
  unfold fX1_findOver_p79 at hf
  rcases bndT_eq hf with ⟨_, _, ex2, qx2⟩ | ⟨x2, h3, ex2, hf⟩
  · cases qx2; exact v_ofDx (pc := 79) C X.2.1 X.2.2.1 rfl X.2.2.2.2.1 (d_S (pc := 79) C (As := [.int t0]) (rest := []) q1595 q1596 yk_X1_must rfl (by decide) (by decide) (Nat.le_trans aw_0 (by decide)) rfl (mX1_must C.st ex2) dX1_findOver_79)
  refine v_callU (pc := 79) (d_S (pc := 79) C (As := [.int t0]) (rest := []) q1595 q1596 yk_X1_must rfl (by decide) (by decide) (Nat.le_trans aw_0 (by decide)) rfl (mX1_must C.st ex2) dX1_findOver_79) ?_
  refine v_aload_n (pc := 82) (j := 0) C dX1_findOver_82 rfl rfl ?_
  obtain ⟨h4, eh4, hf⟩ := oB hf
  refine v_new (pc := 83) (t := 7) (fs := dfX8) (T := TX8) (N := 7) C rfl in_X8 tyX8 tyX8_ok q1566 q2019 q114 dfX8_ok rfl eh4 dX1_findOver_83 ?_
  refine v_dup (pc := 86) C dX1_findOver_86 (va_rfc _) ?_
  refine v_aload_n (pc := 87) (j := 0) C dX1_findOver_87 rfl rfl ?_
  refine v_iconst (pc := 88) (v := (0 : Int32)) C dX1_findOver_88 rfl ?_
  refine v_aload (pc := 89) (j := 2) C dX1_findOver_89 rfl ?_
  refine v_aload (pc := 91) (j := 3) C dX1_findOver_91 rfl ?_
  refine v_iconst (pc := 93) (v := (0 : Int32)) C dX1_findOver_93 rfl ?_
  refine v_iload_n (pc := 94) (j := 1) C dX1_findOver_94 rfl rfl ?_
  obtain ⟨h7, ex6, hf⟩ := oB hf
  refine v_callU (pc := 95) (d_I (pc := 95) C (As := [va_rf a0, .int (0 : Int32), va_rf a4, va_rf a5, .int (0 : Int32), .int a3]) (rest := [va_rf (some h3.1), va_rf a0]) rfl rfl rfl q2020 q2021 yk_X8_init rfl (by decide) (by decide) (Nat.le_trans (aw_r (aw_r aw_0)) (by decide)) rfl (mX8_init C.st ex6) dX1_findOver_95) ?_
  obtain ⟨b8, eb8, hf⟩ := oB hf
  obtain ⟨rb8, _, kb8⟩ := aIs_eq eb8
  obtain ⟨x9, h10, ex9, hf⟩ := bnd2_eq hf
  refine v_call (pc := 98) (d_V (pc := 98) C (As := [va_rf (some h3.1)]) (rest := []) rb8 kb8 nt_0 q2055 yi_X1_tell_FigureSurvey yk_X1_tell rfl (by decide) (by decide) (Nat.le_trans aw_0 (by decide)) rfl (mX1_tell C.st ex9) dX1_findOver_98) ?_
  cases hf
  exact v_ireturn (pc := 101) C X.2.1 X.2.2.1 X.2.2.2.1 rfl dX1_findOver_101
def fX1_findOver_p47 (D : aD) (h : aH) (a0 : Option Nat) (a3 : Int32) (a4 : Option Nat) (a5 : Option Nat) (t0 : Int32) : Option ((Nat ⊕ Int32) × aH) :=
  bndT (fX1_right D h t0) fun _ h3 =>
  (gI h3 0 6 a0).bind fun x4 =>
  if (90 : Int32) ≤ x4 then
  (fX1_findOver_p79 D h3 a0 a3 a4 a5 (0 : Int32))
  else
  ((gR h3 4 1 a4).bind fun x5 =>
  (aIs h3 0 a0).bind fun _ =>
  bnd2 (fX1_findingsOf D h3 a0 x5 (0 : Int32)) fun x7 h8 =>
  fX1_findOver_p79 D h8 a0 a3 a4 a5 (if (12 : Int32) ≤ x7 then (0 : Int32) else (1 : Int32)))
theorem vX1_findOver_p47 {h : aH} {a0 : Option Nat} {a3 : Int32} {a4 : Option Nat} {a5 : Option Nat} {t0 : Int32} {q : Nat ⊕ Int32} {g : aH} (X : aX p l R s m meth c D n0 s0 yX1_findOver cX1_findOver 22 3365 6 (some .int) h0) (hf : fX1_findOver_p47 D h a0 a3 a4 a5 t0 = some (q, g)) : V p l e R s m args below meth c D n0 s0 (aEnd D below args s h0 (wI q, g)) h 47 [(0, false, va_rf a0), (3, false, .int a3), (4, false, va_rf a4), (5, false, va_rf a5)] [.int t0] := by
  have C := X.1
  unfold fX1_findOver_p47 at hf
  rcases bndT_eq hf with ⟨_, _, ex2, qx2⟩ | ⟨x2, h3, ex2, hf⟩
  · cases qx2; exact v_ofDx (pc := 47) C X.2.1 X.2.2.1 rfl X.2.2.2.2.1 (d_S (pc := 47) C (As := [.int t0]) (rest := []) q1772 q1773 yk_X1_right rfl (by decide) (by decide) (Nat.le_trans aw_0 (by decide)) rfl (mX1_right C.st ex2) dX1_findOver_47)
  refine v_callU (pc := 47) (d_S (pc := 47) C (As := [.int t0]) (rest := []) q1772 q1773 yk_X1_right rfl (by decide) (by decide) (Nat.le_trans aw_0 (by decide)) rfl (mX1_right C.st ex2) dX1_findOver_47) ?_
  refine v_aload_n (pc := 50) (j := 0) C dX1_findOver_50 rfl rfl ?_
  obtain ⟨x4, ex4, hf⟩ := oB hf
  refine v_getF (pc := 51) C lk_X1_316 (gI_eq ex4) dX1_findOver_51 ?_
  refine v_bipush (pc := 54) (v := (90 : Int32)) C dX1_findOver_54 rfl ?_
  refine v_icmp_ge (pc := 56) (tgt := 78) C dX1_findOver_56 rfl (fun hc => ?_) (fun hc => ?_)
  · rw [if_pos hc] at hf
    refine v_iconst (pc := 78) (v := (0 : Int32)) C dX1_findOver_78 rfl ?_
    exact V.sub [0, 1, 2, 3] rfl (vX1_findOver_p79 X hf)
  · rw [if_neg hc] at hf
    refine v_aload_n (pc := 59) (j := 0) C dX1_findOver_59 rfl rfl ?_
    refine v_aload (pc := 60) (j := 2) C dX1_findOver_60 rfl ?_
    obtain ⟨x5, ex5, hf⟩ := oB hf
    refine v_getF (pc := 62) C lk_X1_31 (gR_eq ex5) dX1_findOver_62 ?_
    refine v_iconst (pc := 65) (v := (0 : Int32)) C dX1_findOver_65 rfl ?_
    obtain ⟨b6, eb6, hf⟩ := oB hf
    obtain ⟨rb6, _, kb6⟩ := aIs_eq eb6
    obtain ⟨x7, h8, ex7, hf⟩ := bnd2_eq hf
    refine v_call (pc := 66) (d_V (pc := 66) C (As := [va_rf x5, .int (0 : Int32)]) (rest := []) rb6 kb6 nt_0 q2014 yi_X1_findingsOf_FigureSurvey yk_X1_findingsOf rfl (by decide) (by decide) (Nat.le_trans aw_0 (by decide)) rfl (mX1_findingsOf C.st ex7) dX1_findOver_66) ?_
    refine v_bipush (pc := 69) (v := (12 : Int32)) C dX1_findOver_69 rfl ?_
    refine v_icmp_ge (pc := 71) (tgt := 78) C dX1_findOver_71 rfl (fun hc => ?_) (fun hc => ?_)
    · simp only [if_pos hc] at hf
      refine v_iconst (pc := 78) (v := (0 : Int32)) C dX1_findOver_78 rfl ?_
      exact V.sub [0, 1, 2, 3] rfl (vX1_findOver_p79 X hf)
    · simp only [if_neg hc] at hf
      refine v_iconst (pc := 74) (v := (1 : Int32)) C dX1_findOver_74 rfl ?_
      refine v_goto (pc := 75) (tgt := 79) C dX1_findOver_75 rfl ?_
      exact V.sub [0, 1, 2, 3] rfl (vX1_findOver_p79 X hf)
def fX1_findOver (D : aD) (h : aH) (a0 : Option Nat) (a1 : Int32) (a2 : Int32) (a3 : Int32) : Option ((Nat ⊕ Int32) × aH) :=
  (aIs h 0 a0).bind fun _ =>
  bndT (fX1_figure D h a0 a1) fun x2 h3 =>
  (aIs h3 0 a0).bind fun _ =>
  bndT (fX1_figure D h3 a0 a2) fun x5 h6 =>
  bndT (fX1_in D h6 a3 (1 : Int32) (9 : Int32)) fun x8 h9 =>
  if x2 = x5 then
  (fX1_findOver_p47 D h9 a0 a3 x2 x5 (0 : Int32))
  else
  ((gR h9 4 1 x2).bind fun x10 =>
  (gR h9 4 1 x5).bind fun x11 =>
  fX1_findOver_p47 D h9 a0 a3 x2 x5 (if x10 = x11 then (1 : Int32) else (0 : Int32)))
theorem vX1_findOver {h : aH} {a0 : Option Nat} {a1 : Int32} {a2 : Int32} {a3 : Int32} {q : Nat ⊕ Int32} {g : aH} (X : aX p l R s m meth c D n0 s0 yX1_findOver cX1_findOver 22 3365 6 (some .int) h0) (hf : fX1_findOver D h a0 a1 a2 a3 = some (q, g)) : V p l e R s m args below meth c D n0 s0 (aEnd D below args s h0 (wI q, g)) h 0 [(0, false, va_rf a0), (1, false, .int a1), (2, false, .int a2), (3, false, .int a3)] [] := by
  have C := X.1
  unfold fX1_findOver at hf
  refine v_aload_n (pc := 0) (j := 0) C dX1_findOver_0 rfl rfl ?_
  refine v_iload_n (pc := 1) (j := 1) C dX1_findOver_1 rfl rfl ?_
  obtain ⟨b1, eb1, hf⟩ := oB hf
  obtain ⟨rb1, _, kb1⟩ := aIs_eq eb1
  rcases bndT_eq hf with ⟨_, _, ex2, qx2⟩ | ⟨x2, h3, ex2, hf⟩
  · cases qx2; exact v_ofDx (pc := 2) C X.2.1 X.2.2.1 rfl X.2.2.2.2.1 (d_V (pc := 2) C (As := [.int a1]) (rest := []) rb1 kb1 nt_0 q1849 yi_X1_figure_FigureSurvey yk_X1_figure rfl (by decide) (by decide) (Nat.le_trans aw_0 (by decide)) rfl (mX1_figure C.st ex2) dX1_findOver_2)
  refine v_call (pc := 2) (d_V (pc := 2) C (As := [.int a1]) (rest := []) rb1 kb1 nt_0 q1849 yi_X1_figure_FigureSurvey yk_X1_figure rfl (by decide) (by decide) (Nat.le_trans aw_0 (by decide)) rfl (mX1_figure C.st ex2) dX1_findOver_2) ?_
  refine v_astore (pc := 5) (lv' := [(4, false, va_rf x2), (0, false, va_rf a0), (1, false, .int a1), (2, false, .int a2), (3, false, .int a3)]) C dX1_findOver_5 (by decide) rfl ?_
  refine v_aload_n (pc := 7) (j := 1) C dX1_findOver_7 rfl rfl ?_
  refine v_iload_n (pc := 8) (j := 3) C dX1_findOver_8 rfl rfl ?_
  obtain ⟨b4, eb4, hf⟩ := oB hf
  obtain ⟨rb4, _, kb4⟩ := aIs_eq eb4
  rcases bndT_eq hf with ⟨_, _, ex5, qx5⟩ | ⟨x5, h6, ex5, hf⟩
  · cases qx5; exact v_ofDx (pc := 9) C X.2.1 X.2.2.1 rfl X.2.2.2.2.1 (d_V (pc := 9) C (As := [.int a2]) (rest := []) rb4 kb4 nt_0 q1849 yi_X1_figure_FigureSurvey yk_X1_figure rfl (by decide) (by decide) (Nat.le_trans aw_0 (by decide)) rfl (mX1_figure C.st ex5) dX1_findOver_9)
  refine v_call (pc := 9) (d_V (pc := 9) C (As := [.int a2]) (rest := []) rb4 kb4 nt_0 q1849 yi_X1_figure_FigureSurvey yk_X1_figure rfl (by decide) (by decide) (Nat.le_trans aw_0 (by decide)) rfl (mX1_figure C.st ex5) dX1_findOver_9) ?_
  refine v_astore (pc := 12) (lv' := [(5, false, va_rf x5), (4, false, va_rf x2), (0, false, va_rf a0), (1, false, .int a1), (2, false, .int a2), (3, false, .int a3)]) C dX1_findOver_12 (by decide) rfl ?_
  refine v_iload_n (pc := 14) (j := 5) C dX1_findOver_14 rfl rfl ?_
  refine v_iconst (pc := 15) (v := (1 : Int32)) C dX1_findOver_15 rfl ?_
  refine v_bipush (pc := 16) (v := (9 : Int32)) C dX1_findOver_16 rfl ?_
  rcases bndT_eq hf with ⟨_, _, ex8, qx8⟩ | ⟨x8, h9, ex8, hf⟩
  · cases qx8; exact v_ofDx (pc := 18) C X.2.1 X.2.2.1 rfl X.2.2.2.2.1 (d_S (pc := 18) C (As := [.int a3, .int (1 : Int32), .int (9 : Int32)]) (rest := []) q1578 q1579 yk_X1_in rfl (by decide) (by decide) (Nat.le_trans aw_0 (by decide)) rfl (mX1_in C.st ex8) dX1_findOver_18)
  refine v_call (pc := 18) (d_S (pc := 18) C (As := [.int a3, .int (1 : Int32), .int (9 : Int32)]) (rest := []) q1578 q1579 yk_X1_in rfl (by decide) (by decide) (Nat.le_trans aw_0 (by decide)) rfl (mX1_in C.st ex8) dX1_findOver_18) ?_
  refine v_pop (pc := 21) C dX1_findOver_21 rfl ?_
  refine v_aload (pc := 22) (j := 1) C dX1_findOver_22 rfl ?_
  refine v_aload (pc := 24) (j := 0) C dX1_findOver_24 rfl ?_
  refine v_acmp_eq (pc := 26) (tgt := 46) C dX1_findOver_26 rfl (fun hc => ?_) (fun hc => ?_)
  · rw [if_pos hc] at hf
    refine v_iconst (pc := 46) (v := (0 : Int32)) C dX1_findOver_46 rfl ?_
    exact V.sub [2, 5, 1, 0] rfl (vX1_findOver_p47 X hf)
  · rw [if_neg hc] at hf
    refine v_aload (pc := 29) (j := 1) C dX1_findOver_29 rfl ?_
    obtain ⟨x10, ex10, hf⟩ := oB hf
    refine v_getF (pc := 31) C lk_X1_31 (gR_eq ex10) dX1_findOver_31 ?_
    refine v_aload (pc := 34) (j := 0) C dX1_findOver_34 rfl ?_
    obtain ⟨x11, ex11, hf⟩ := oB hf
    refine v_getF (pc := 36) C lk_X1_31 (gR_eq ex11) dX1_findOver_36 ?_
    refine v_acmp_ne (pc := 39) (tgt := 46) C dX1_findOver_39 rfl (fun hc => ?_) (fun hc => ?_)
    · simp only [if_neg hc] at hf
      refine v_iconst (pc := 46) (v := (0 : Int32)) C dX1_findOver_46 rfl ?_
      exact V.sub [2, 5, 1, 0] rfl (vX1_findOver_p47 X hf)
    · simp only [if_pos (Decidable.of_not_not hc)] at hf
      refine v_iconst (pc := 42) (v := (1 : Int32)) C dX1_findOver_42 rfl ?_
      refine v_goto (pc := 43) (tgt := 47) C dX1_findOver_43 rfl ?_
      exact V.sub [2, 5, 1, 0] rfl (vX1_findOver_p47 X hf)
theorem mX1_findOver {l : Launch} {D : aD} {h : aH} {a0 : Option Nat} {a1 : Int32} {a2 : Int32} {a3 : Int32} {q : Nat ⊕ Int32} {g : aH} (hst : l.stackTraces = false) (hf : fX1_findOver D h a0 a1 a2 a3 = some (q, g)) : aM l D yX1_findOver cX1_findOver 6 (some .int) 22 3365 [va_rf a0, .int a1, .int a2, .int a3] h (wI q, g) :=
  aM.ofX [(false, va_rf a0), (false, .int a1), (false, .int a2), (false, .int a3)] rfl (ap_r (ap_c rfl (ap_c rfl (ap_c rfl ap_0)))) (by decide +kernel) hst (al_of (aw_r (aw_i (aw_i (aw_i aw_0)))) (by decide)) fun p e s m args below meth c X => V.sub (lv' := [(0, false, va_rf a0), (1, false, .int a1), (2, false, .int a2), (3, false, .int a3)]) [0, 1, 2, 3] rfl (vX1_findOver X hf)
def fX1_findDate_p83 (D : aD) (h : aH) (a0 : Option Nat) (a1 : Int32) (a3 : Int32) (a4 : Int32) (a5 : Option Nat) (t0 : Int32) : Option ((Nat ⊕ Int32) × aH) :=
  bndT (fX1_must D h t0) fun _ h3 =>
  (aMk D h3 (7, dfX8)).bind fun h4 =>
  (fX8_init D h4 (some h3.1) a0 a1 a5 none a3 a4).bind fun h7 =>
  (aIs h7 0 a0).bind fun _ =>
  bnd2 (fX1_tell D h7 a0 (some h3.1)) fun x9 h10 =>
  some (.inr x9, h10)
theorem vX1_findDate_p83 {h : aH} {a0 : Option Nat} {a1 : Int32} {a3 : Int32} {a4 : Int32} {a5 : Option Nat} {t0 : Int32} {q : Nat ⊕ Int32} {g : aH} (X : aX p l R s m meth c D n0 s0 yX1_findDate cX1_findDate 22 3365 6 (some .int) h0) (hf : fX1_findDate_p83 D h a0 a1 a3 a4 a5 t0 = some (q, g)) : V p l e R s m args below meth c D n0 s0 (aEnd D below args s h0 (wI q, g)) h 83 [(0, false, va_rf a0), (1, false, .int a1), (3, false, .int a3), (4, false, .int a4), (5, false, va_rf a5)] [.int t0] := by
  have C := X.1
  unfold fX1_findDate_p83 at hf
  rcases bndT_eq hf with ⟨_, _, ex2, qx2⟩ | ⟨x2, h3, ex2, hf⟩
  · cases qx2; exact v_ofDx (pc := 83) C X.2.1 X.2.2.1 rfl X.2.2.2.2.1 (d_S (pc := 83) C (As := [.int t0]) (rest := []) q1595 q1596 yk_X1_must rfl (by decide) (by decide) (Nat.le_trans aw_0 (by decide)) rfl (mX1_must C.st ex2) dX1_findDate_83)
  refine v_callU (pc := 83) (d_S (pc := 83) C (As := [.int t0]) (rest := []) q1595 q1596 yk_X1_must rfl (by decide) (by decide) (Nat.le_trans aw_0 (by decide)) rfl (mX1_must C.st ex2) dX1_findDate_83) ?_
  refine v_aload_n (pc := 86) (j := 0) C dX1_findDate_86 rfl rfl ?_
  obtain ⟨h4, eh4, hf⟩ := oB hf
  refine v_new (pc := 87) (t := 7) (fs := dfX8) (T := TX8) (N := 7) C rfl in_X8 tyX8 tyX8_ok q1566 q2019 q114 dfX8_ok rfl eh4 dX1_findDate_87 ?_
  refine v_dup (pc := 90) C dX1_findDate_90 (va_rfc _) ?_
  refine v_aload_n (pc := 91) (j := 0) C dX1_findDate_91 rfl rfl ?_
  refine v_iload_n (pc := 92) (j := 1) C dX1_findDate_92 rfl rfl ?_
  refine v_aload (pc := 93) (j := 4) C dX1_findDate_93 rfl ?_
  refine v_null (pc := 95) C dX1_findDate_95 ?_
  refine v_iload_n (pc := 96) (j := 2) C dX1_findDate_96 rfl rfl ?_
  refine v_iload (pc := 97) (j := 3) C dX1_findDate_97 rfl ?_
  obtain ⟨h7, ex6, hf⟩ := oB hf
  refine v_callU (pc := 99) (d_I (pc := 99) C (As := [va_rf a0, .int a1, va_rf a5, va_rf none, .int a3, .int a4]) (rest := [va_rf (some h3.1), va_rf a0]) rfl rfl rfl q2020 q2021 yk_X8_init rfl (by decide) (by decide) (Nat.le_trans (aw_r (aw_r aw_0)) (by decide)) rfl (mX8_init C.st ex6) dX1_findDate_99) ?_
  obtain ⟨b8, eb8, hf⟩ := oB hf
  obtain ⟨rb8, _, kb8⟩ := aIs_eq eb8
  obtain ⟨x9, h10, ex9, hf⟩ := bnd2_eq hf
  refine v_call (pc := 102) (d_V (pc := 102) C (As := [va_rf (some h3.1)]) (rest := []) rb8 kb8 nt_0 q2055 yi_X1_tell_FigureSurvey yk_X1_tell rfl (by decide) (by decide) (Nat.le_trans aw_0 (by decide)) rfl (mX1_tell C.st ex9) dX1_findDate_102) ?_
  cases hf
  exact v_ireturn (pc := 105) C X.2.1 X.2.2.1 X.2.2.2.1 rfl dX1_findDate_105
def fX1_findDate_p37 (D : aD) (h : aH) (a0 : Option Nat) (a1 : Int32) (a3 : Int32) (a4 : Int32) (a5 : Option Nat) (t0 : Int32) (t1 : Int32) (t2 : Int32) : Option ((Nat ⊕ Int32) × aH) :=
  bndT (fX1_in D h t0 t1 t2) fun x2 h3 =>
  bndT (fX1_in D h3 a4 (1 : Int32) (9 : Int32)) fun x5 h6 =>
  (gI h6 0 6 a0).bind fun x7 =>
  if (90 : Int32) ≤ x7 then
  (fX1_findDate_p83 D h6 a0 a1 a3 a4 a5 (0 : Int32))
  else
  ((gR h6 4 1 a5).bind fun x8 =>
  (fJ11_min D h6 a1 (2 : Int32)).bind fun x10 =>
  (aIs h6 0 a0).bind fun _ =>
  bnd2 (fX1_findingsOf D h6 a0 x8 x10) fun x13 h14 =>
  fX1_findDate_p83 D h14 a0 a1 a3 a4 a5 (if (6 : Int32) ≤ x13 then (0 : Int32) else (1 : Int32)))
theorem vX1_findDate_p37 {h : aH} {a0 : Option Nat} {a1 : Int32} {a3 : Int32} {a4 : Int32} {a5 : Option Nat} {t0 : Int32} {t1 : Int32} {t2 : Int32} {q : Nat ⊕ Int32} {g : aH} (X : aX p l R s m meth c D n0 s0 yX1_findDate cX1_findDate 22 3365 6 (some .int) h0) (hf : fX1_findDate_p37 D h a0 a1 a3 a4 a5 t0 t1 t2 = some (q, g)) : V p l e R s m args below meth c D n0 s0 (aEnd D below args s h0 (wI q, g)) h 37 [(0, false, va_rf a0), (1, false, .int a1), (3, false, .int a3), (4, false, .int a4), (5, false, va_rf a5)] [.int t2, .int t1, .int t0] := by
  have C := X.1
  unfold fX1_findDate_p37 at hf
  rcases bndT_eq hf with ⟨_, _, ex2, qx2⟩ | ⟨x2, h3, ex2, hf⟩
  · cases qx2; exact v_ofDx (pc := 37) C X.2.1 X.2.2.1 rfl X.2.2.2.2.1 (d_S (pc := 37) C (As := [.int t0, .int t1, .int t2]) (rest := []) q1578 q1579 yk_X1_in rfl (by decide) (by decide) (Nat.le_trans aw_0 (by decide)) rfl (mX1_in C.st ex2) dX1_findDate_37)
  refine v_call (pc := 37) (d_S (pc := 37) C (As := [.int t0, .int t1, .int t2]) (rest := []) q1578 q1579 yk_X1_in rfl (by decide) (by decide) (Nat.le_trans aw_0 (by decide)) rfl (mX1_in C.st ex2) dX1_findDate_37) ?_
  refine v_pop (pc := 40) C dX1_findDate_40 rfl ?_
  refine v_iload (pc := 41) (j := 3) C dX1_findDate_41 rfl ?_
  refine v_iconst (pc := 43) (v := (1 : Int32)) C dX1_findDate_43 rfl ?_
  refine v_bipush (pc := 44) (v := (9 : Int32)) C dX1_findDate_44 rfl ?_
  rcases bndT_eq hf with ⟨_, _, ex5, qx5⟩ | ⟨x5, h6, ex5, hf⟩
  · cases qx5; exact v_ofDx (pc := 46) C X.2.1 X.2.2.1 rfl X.2.2.2.2.1 (d_S (pc := 46) C (As := [.int a4, .int (1 : Int32), .int (9 : Int32)]) (rest := []) q1578 q1579 yk_X1_in rfl (by decide) (by decide) (Nat.le_trans aw_0 (by decide)) rfl (mX1_in C.st ex5) dX1_findDate_46)
  refine v_call (pc := 46) (d_S (pc := 46) C (As := [.int a4, .int (1 : Int32), .int (9 : Int32)]) (rest := []) q1578 q1579 yk_X1_in rfl (by decide) (by decide) (Nat.le_trans aw_0 (by decide)) rfl (mX1_in C.st ex5) dX1_findDate_46) ?_
  refine v_pop (pc := 49) C dX1_findDate_49 rfl ?_
  refine v_aload_n (pc := 50) (j := 0) C dX1_findDate_50 rfl rfl ?_
  obtain ⟨x7, ex7, hf⟩ := oB hf
  refine v_getF (pc := 51) C lk_X1_316 (gI_eq ex7) dX1_findDate_51 ?_
  refine v_bipush (pc := 54) (v := (90 : Int32)) C dX1_findDate_54 rfl ?_
  refine v_icmp_ge (pc := 56) (tgt := 82) C dX1_findDate_56 rfl (fun hc => ?_) (fun hc => ?_)
  · rw [if_pos hc] at hf
    refine v_iconst (pc := 82) (v := (0 : Int32)) C dX1_findDate_82 rfl ?_
    exact V.sub [0, 1, 2, 3, 4] rfl (vX1_findDate_p83 X hf)
  · rw [if_neg hc] at hf
    refine v_aload_n (pc := 59) (j := 0) C dX1_findDate_59 rfl rfl ?_
    refine v_aload (pc := 60) (j := 4) C dX1_findDate_60 rfl ?_
    obtain ⟨x8, ex8, hf⟩ := oB hf
    refine v_getF (pc := 62) C lk_X1_31 (gR_eq ex8) dX1_findDate_62 ?_
    refine v_iload_n (pc := 65) (j := 1) C dX1_findDate_65 rfl rfl ?_
    refine v_iconst (pc := 66) (v := (2 : Int32)) C dX1_findDate_66 rfl ?_
    obtain ⟨x10, ex10, hf⟩ := oB hf
    refine v_call (pc := 67) (d_S (pc := 67) C (As := [.int a1, .int (2 : Int32)]) (rest := [va_rf x8, va_rf a0]) q1256 q477 yk_J11_min rfl (by decide) (by decide) (Nat.le_trans (aw_r (aw_r aw_0)) (by decide)) rfl (mJ11_min C.st ex10) dX1_findDate_67) ?_
    obtain ⟨b12, eb12, hf⟩ := oB hf
    obtain ⟨rb12, _, kb12⟩ := aIs_eq eb12
    obtain ⟨x13, h14, ex13, hf⟩ := bnd2_eq hf
    refine v_call (pc := 70) (d_V (pc := 70) C (As := [va_rf x8, .int x10]) (rest := []) rb12 kb12 nt_0 q2014 yi_X1_findingsOf_FigureSurvey yk_X1_findingsOf rfl (by decide) (by decide) (Nat.le_trans aw_0 (by decide)) rfl (mX1_findingsOf C.st ex13) dX1_findDate_70) ?_
    refine v_bipush (pc := 73) (v := (6 : Int32)) C dX1_findDate_73 rfl ?_
    refine v_icmp_ge (pc := 75) (tgt := 82) C dX1_findDate_75 rfl (fun hc => ?_) (fun hc => ?_)
    · simp only [if_pos hc] at hf
      refine v_iconst (pc := 82) (v := (0 : Int32)) C dX1_findDate_82 rfl ?_
      exact V.sub [0, 1, 2, 3, 4] rfl (vX1_findDate_p83 X hf)
    · simp only [if_neg hc] at hf
      refine v_iconst (pc := 78) (v := (1 : Int32)) C dX1_findDate_78 rfl ?_
      refine v_goto (pc := 79) (tgt := 83) C dX1_findDate_79 rfl ?_
      exact V.sub [0, 1, 2, 3, 4] rfl (vX1_findDate_p83 X hf)
def fX1_findDate_p25 (D : aD) (h : aH) (a0 : Option Nat) (a1 : Int32) (a3 : Int32) (a4 : Int32) (a5 : Option Nat) (t0 : Int32) (t1 : Int32) : Option ((Nat ⊕ Int32) × aH) :=
  fX1_findDate_p37 D h a0 a1 a3 a4 a5 t0 t1 (if a1 = (3 : Int32) then (400 : Int32) else (4 : Int32))
theorem vX1_findDate_p25 {h : aH} {a0 : Option Nat} {a1 : Int32} {a3 : Int32} {a4 : Int32} {a5 : Option Nat} {t0 : Int32} {t1 : Int32} {q : Nat ⊕ Int32} {g : aH} (X : aX p l R s m meth c D n0 s0 yX1_findDate cX1_findDate 22 3365 6 (some .int) h0) (hf : fX1_findDate_p25 D h a0 a1 a3 a4 a5 t0 t1 = some (q, g)) : V p l e R s m args below meth c D n0 s0 (aEnd D below args s h0 (wI q, g)) h 25 [(0, false, va_rf a0), (1, false, .int a1), (3, false, .int a3), (4, false, .int a4), (5, false, va_rf a5)] [.int t1, .int t0] := by
  have C := X.1
  unfold fX1_findDate_p25 at hf
  refine v_iload_n (pc := 25) (j := 1) C dX1_findDate_25 rfl rfl ?_
  refine v_iconst (pc := 26) (v := (3 : Int32)) C dX1_findDate_26 rfl ?_
  refine v_icmp_ne (pc := 27) (tgt := 36) C dX1_findDate_27 rfl (fun hc => ?_) (fun hc => ?_)
  · simp only [if_neg hc] at hf
    refine v_iconst (pc := 36) (v := (4 : Int32)) C dX1_findDate_36 rfl ?_
    exact V.sub [0, 1, 2, 3, 4] rfl (vX1_findDate_p37 X hf)
  · simp only [if_pos (Decidable.of_not_not hc)] at hf
    refine v_sipush (pc := 30) (v := (400 : Int32)) C dX1_findDate_30 rfl ?_
    refine v_goto (pc := 33) (tgt := 37) C dX1_findDate_33 rfl ?_
    exact V.sub [0, 1, 2, 3, 4] rfl (vX1_findDate_p37 X hf)
def fX1_findDate (D : aD) (h : aH) (a0 : Option Nat) (a1 : Int32) (a2 : Int32) (a3 : Int32) (a4 : Int32) : Option ((Nat ⊕ Int32) × aH) :=
  (aIs h 0 a0).bind fun _ =>
  bndT (fX1_figure D h a0 a2) fun x2 h3 =>
  bndT (fX1_in D h3 a1 (1 : Int32) (3 : Int32)) fun x5 h6 =>
  fX1_findDate_p25 D h6 a0 a1 a3 a4 x2 a3 (if a1 = (3 : Int32) then (1 : Int32) else (0 : Int32))
theorem vX1_findDate {h : aH} {a0 : Option Nat} {a1 : Int32} {a2 : Int32} {a3 : Int32} {a4 : Int32} {q : Nat ⊕ Int32} {g : aH} (X : aX p l R s m meth c D n0 s0 yX1_findDate cX1_findDate 22 3365 6 (some .int) h0) (hf : fX1_findDate D h a0 a1 a2 a3 a4 = some (q, g)) : V p l e R s m args below meth c D n0 s0 (aEnd D below args s h0 (wI q, g)) h 0 [(0, false, va_rf a0), (1, false, .int a1), (2, false, .int a2), (3, false, .int a3), (4, false, .int a4)] [] := by
  have C := X.1
  unfold fX1_findDate at hf
  refine v_aload_n (pc := 0) (j := 0) C dX1_findDate_0 rfl rfl ?_
  refine v_iload_n (pc := 1) (j := 2) C dX1_findDate_1 rfl rfl ?_
  obtain ⟨b1, eb1, hf⟩ := oB hf
  obtain ⟨rb1, _, kb1⟩ := aIs_eq eb1
  rcases bndT_eq hf with ⟨_, _, ex2, qx2⟩ | ⟨x2, h3, ex2, hf⟩
  · cases qx2; exact v_ofDx (pc := 2) C X.2.1 X.2.2.1 rfl X.2.2.2.2.1 (d_V (pc := 2) C (As := [.int a2]) (rest := []) rb1 kb1 nt_0 q1849 yi_X1_figure_FigureSurvey yk_X1_figure rfl (by decide) (by decide) (Nat.le_trans aw_0 (by decide)) rfl (mX1_figure C.st ex2) dX1_findDate_2)
  refine v_call (pc := 2) (d_V (pc := 2) C (As := [.int a2]) (rest := []) rb1 kb1 nt_0 q1849 yi_X1_figure_FigureSurvey yk_X1_figure rfl (by decide) (by decide) (Nat.le_trans aw_0 (by decide)) rfl (mX1_figure C.st ex2) dX1_findDate_2) ?_
  refine v_astore (pc := 5) (lv' := [(5, false, va_rf x2), (0, false, va_rf a0), (1, false, .int a1), (2, false, .int a2), (3, false, .int a3), (4, false, .int a4)]) C dX1_findDate_5 (by decide) rfl ?_
  refine v_iload_n (pc := 7) (j := 2) C dX1_findDate_7 rfl rfl ?_
  refine v_iconst (pc := 8) (v := (1 : Int32)) C dX1_findDate_8 rfl ?_
  refine v_iconst (pc := 9) (v := (3 : Int32)) C dX1_findDate_9 rfl ?_
  rcases bndT_eq hf with ⟨_, _, ex5, qx5⟩ | ⟨x5, h6, ex5, hf⟩
  · cases qx5; exact v_ofDx (pc := 10) C X.2.1 X.2.2.1 rfl X.2.2.2.2.1 (d_S (pc := 10) C (As := [.int a1, .int (1 : Int32), .int (3 : Int32)]) (rest := []) q1578 q1579 yk_X1_in rfl (by decide) (by decide) (Nat.le_trans aw_0 (by decide)) rfl (mX1_in C.st ex5) dX1_findDate_10)
  refine v_call (pc := 10) (d_S (pc := 10) C (As := [.int a1, .int (1 : Int32), .int (3 : Int32)]) (rest := []) q1578 q1579 yk_X1_in rfl (by decide) (by decide) (Nat.le_trans aw_0 (by decide)) rfl (mX1_in C.st ex5) dX1_findDate_10) ?_
  refine v_pop (pc := 13) C dX1_findDate_13 rfl ?_
  refine v_iload_n (pc := 14) (j := 4) C dX1_findDate_14 rfl rfl ?_
  refine v_iload_n (pc := 15) (j := 2) C dX1_findDate_15 rfl rfl ?_
  refine v_iconst (pc := 16) (v := (3 : Int32)) C dX1_findDate_16 rfl ?_
  refine v_icmp_ne (pc := 17) (tgt := 24) C dX1_findDate_17 rfl (fun hc => ?_) (fun hc => ?_)
  · simp only [if_neg hc] at hf
    refine v_iconst (pc := 24) (v := (0 : Int32)) C dX1_findDate_24 rfl ?_
    exact V.sub [1, 2, 4, 5, 0] rfl (vX1_findDate_p25 X hf)
  · simp only [if_pos (Decidable.of_not_not hc)] at hf
    refine v_iconst (pc := 20) (v := (1 : Int32)) C dX1_findDate_20 rfl ?_
    refine v_goto (pc := 21) (tgt := 25) C dX1_findDate_21 rfl ?_
    exact V.sub [1, 2, 4, 5, 0] rfl (vX1_findDate_p25 X hf)
theorem mX1_findDate {l : Launch} {D : aD} {h : aH} {a0 : Option Nat} {a1 : Int32} {a2 : Int32} {a3 : Int32} {a4 : Int32} {q : Nat ⊕ Int32} {g : aH} (hst : l.stackTraces = false) (hf : fX1_findDate D h a0 a1 a2 a3 a4 = some (q, g)) : aM l D yX1_findDate cX1_findDate 6 (some .int) 22 3365 [va_rf a0, .int a1, .int a2, .int a3, .int a4] h (wI q, g) :=
  aM.ofX [(false, va_rf a0), (false, .int a1), (false, .int a2), (false, .int a3), (false, .int a4)] rfl (ap_r (ap_c rfl (ap_c rfl (ap_c rfl (ap_c rfl ap_0))))) (by decide +kernel) hst (al_of (aw_r (aw_i (aw_i (aw_i (aw_i aw_0))))) (by decide)) fun p e s m args below meth c X => V.sub (lv' := [(0, false, va_rf a0), (1, false, .int a1), (2, false, .int a2), (3, false, .int a3), (4, false, .int a4)]) [0, 1, 2, 3, 4] rfl (vX1_findDate X hf)
def fX1_scene (D : aD) (h : aH) (a0 : Option Nat) (a1 : Option Nat) : Option (Option Nat × aH) :=
  (aMk D h (8, dfX9)).bind fun h1 =>
  (gR h1 4 1 a1).bind fun x2 =>
  (fX9_init D h1 (some h.1) a0 x2).bind fun h5 =>
  some ((some h.1), h5)
theorem vX1_scene {h : aH} {a0 : Option Nat} {a1 : Option Nat} {q : Option Nat} {g : aH} (X : aX p l R s m meth c D n0 s0 yX1_scene cX1_scene 12 3140 2 (some (.object "FigureSurvey$Scene")) h0) (hf : fX1_scene D h a0 a1 = some (q, g)) : V p l e R s m args below meth c D n0 s0 (aEnd D below args s h0 (.inr (some (va_rf q)), g)) h 0 [(0, false, va_rf a0), (1, false, va_rf a1)] [] := by
  have C := X.1
  unfold fX1_scene at hf
  obtain ⟨h1, eh1, hf⟩ := oB hf
  refine v_new (pc := 0) (t := 8) (fs := dfX9) (T := TX9) (N := 8) C rfl in_X9 tyX9 tyX9_ok q862 q863 q120 dfX9_ok rfl eh1 dX1_scene_0 ?_
  refine v_dup (pc := 3) C dX1_scene_3 (va_rfc _) ?_
  refine v_aload_n (pc := 4) (j := 0) C dX1_scene_4 rfl rfl ?_
  refine v_aload_n (pc := 5) (j := 1) C dX1_scene_5 rfl rfl ?_
  obtain ⟨x2, ex2, hf⟩ := oB hf
  refine v_getF (pc := 6) C lk_X1_31 (gR_eq ex2) dX1_scene_6 ?_
  obtain ⟨h5, ex4, hf⟩ := oB hf
  refine v_callU (pc := 9) (d_I (pc := 9) C (As := [va_rf a0, va_rf x2]) (rest := [va_rf (some h.1)]) rfl rfl rfl q864 q865 yk_X9_init rfl (by decide) (by decide) (Nat.le_trans (aw_r aw_0) (by decide)) rfl (mX9_init C.st ex4) dX1_scene_9) ?_
  cases hf
  exact v_areturn (pc := 12) C X.2.1 X.2.2.1 X.2.2.2.1 (Or.inl ⟨_, rfl⟩) rfl dX1_scene_12
theorem mX1_scene {l : Launch} {D : aD} {h : aH} {a0 : Option Nat} {a1 : Option Nat} {q : Option Nat} {g : aH} (hst : l.stackTraces = false) (hf : fX1_scene D h a0 a1 = some (q, g)) : aM l D yX1_scene cX1_scene 2 (some (.object "FigureSurvey$Scene")) 12 3140 [va_rf a0, va_rf a1] h (.inr (some (va_rf q)), g) :=
  aM.ofX [(false, va_rf a0), (false, va_rf a1)] rfl (ap_r (ap_r ap_0)) (by decide +kernel) hst (al_of (aw_r (aw_r aw_0)) (by decide)) fun p e s m args below meth c X => V.sub (lv' := [(0, false, va_rf a0), (1, false, va_rf a1)]) [0, 1] rfl (vX1_scene X hf)
def fX1_standOf (D : aD) (h : aH) (a0 : Option Nat) (a1 : Int32) : Option ((Nat ⊕ Int32) × aH) :=
  (aIs h 0 a0).bind fun _ =>
  bndT (fX1_finding D h a0 a1) fun x2 h3 =>
  (gR h3 7 2 x2).bind fun x4 =>
  (aIs h3 0 a0).bind fun _ =>
  bnd2 (fX1_scene D h3 a0 x4) fun x6 h7 =>
  (aIs h7 8 x6).bind fun _ =>
  (fX9_counts D h7 x6 x2).bind fun x9 =>
  if x9 = 0 then
  (some (.inr (2 : Int32), h7))
  else
  ((aIs h7 8 x6).bind fun _ =>
  (fX9_isBroken D h7 x6 x2).bind fun x12 =>
  if x12 = 0 then
  (some (.inr (0 : Int32), h7))
  else
  (some (.inr (1 : Int32), h7)))
theorem vX1_standOf {h : aH} {a0 : Option Nat} {a1 : Int32} {q : Nat ⊕ Int32} {g : aH} (X : aX p l R s m meth c D n0 s0 yX1_standOf cX1_standOf 13 3161 4 (some .int) h0) (hf : fX1_standOf D h a0 a1 = some (q, g)) : V p l e R s m args below meth c D n0 s0 (aEnd D below args s h0 (wI q, g)) h 0 [(0, false, va_rf a0), (1, false, .int a1)] [] := by
  have C := X.1
  unfold fX1_standOf at hf
  refine v_aload_n (pc := 0) (j := 0) C dX1_standOf_0 rfl rfl ?_
  refine v_iload_n (pc := 1) (j := 1) C dX1_standOf_1 rfl rfl ?_
  obtain ⟨b1, eb1, hf⟩ := oB hf
  obtain ⟨rb1, _, kb1⟩ := aIs_eq eb1
  rcases bndT_eq hf with ⟨_, _, ex2, qx2⟩ | ⟨x2, h3, ex2, hf⟩
  · cases qx2; exact v_ofDx (pc := 2) C X.2.1 X.2.2.1 rfl X.2.2.2.2.1 (d_V (pc := 2) C (As := [.int a1]) (rest := []) rb1 kb1 nt_0 q2093 yi_X1_finding_FigureSurvey yk_X1_finding rfl (by decide) (by decide) (Nat.le_trans aw_0 (by decide)) rfl (mX1_finding C.st ex2) dX1_standOf_2)
  refine v_call (pc := 2) (d_V (pc := 2) C (As := [.int a1]) (rest := []) rb1 kb1 nt_0 q2093 yi_X1_finding_FigureSurvey yk_X1_finding rfl (by decide) (by decide) (Nat.le_trans aw_0 (by decide)) rfl (mX1_finding C.st ex2) dX1_standOf_2) ?_
  refine v_astore_n (pc := 5) (lv' := [(2, false, va_rf x2), (0, false, va_rf a0), (1, false, .int a1)]) C dX1_standOf_5 rfl (by decide) rfl ?_
  refine v_aload_n (pc := 6) (j := 1) C dX1_standOf_6 rfl rfl ?_
  refine v_aload_n (pc := 7) (j := 0) C dX1_standOf_7 rfl rfl ?_
  obtain ⟨x4, ex4, hf⟩ := oB hf
  refine v_getF (pc := 8) C lk_X1_339 (gR_eq ex4) dX1_standOf_8 ?_
  obtain ⟨b5, eb5, hf⟩ := oB hf
  obtain ⟨rb5, _, kb5⟩ := aIs_eq eb5
  obtain ⟨x6, h7, ex6, hf⟩ := bnd2_eq hf
  refine v_call (pc := 11) (d_V (pc := 11) C (As := [va_rf x4]) (rest := []) rb5 kb5 nt_0 q2130 yi_X1_scene_FigureSurvey yk_X1_scene rfl (by decide) (by decide) (Nat.le_trans aw_0 (by decide)) rfl (mX1_scene C.st ex6) dX1_standOf_11) ?_
  refine v_astore_n (pc := 14) (lv' := [(3, false, va_rf x6), (2, false, va_rf x2), (0, false, va_rf a0), (1, false, .int a1)]) C dX1_standOf_14 rfl (by decide) rfl ?_
  refine v_aload_n (pc := 15) (j := 0) C dX1_standOf_15 rfl rfl ?_
  refine v_aload_n (pc := 16) (j := 1) C dX1_standOf_16 rfl rfl ?_
  obtain ⟨b8, eb8, hf⟩ := oB hf
  obtain ⟨rb8, _, kb8⟩ := aIs_eq eb8
  obtain ⟨x9, ex9, hf⟩ := oB hf
  refine v_call (pc := 17) (d_V (pc := 17) C (As := [va_rf x2]) (rest := []) rb8 kb8 nt_8 q1567 yi_X9_counts_FigureSurvey_Scene yk_X9_counts rfl (by decide) (by decide) (Nat.le_trans aw_0 (by decide)) rfl (mX9_counts C.st ex9) dX1_standOf_17) ?_
  refine v_if_ne (pc := 20) (tgt := 27) C dX1_standOf_20 rfl (fun hc => ?_) (fun hc => ?_)
  · rw [if_neg hc] at hf
    refine v_aload_n (pc := 27) (j := 0) C dX1_standOf_27 rfl rfl ?_
    refine v_aload_n (pc := 28) (j := 1) C dX1_standOf_28 rfl rfl ?_
    obtain ⟨b11, eb11, hf⟩ := oB hf
    obtain ⟨rb11, _, kb11⟩ := aIs_eq eb11
    obtain ⟨x12, ex12, hf⟩ := oB hf
    refine v_call (pc := 29) (d_V (pc := 29) C (As := [va_rf x2]) (rest := []) rb11 kb11 nt_8 q1568 yi_X9_isBroken_FigureSurvey_Scene yk_X9_isBroken rfl (by decide) (by decide) (Nat.le_trans aw_0 (by decide)) rfl (mX9_isBroken C.st ex12) dX1_standOf_29) ?_
    refine v_if_eq (pc := 32) (tgt := 39) C dX1_standOf_32 rfl (fun hc => ?_) (fun hc => ?_)
    · rw [if_pos hc] at hf
      refine v_iconst (pc := 39) (v := (0 : Int32)) C dX1_standOf_39 rfl ?_
      cases hf
      exact v_ireturn (pc := 40) C X.2.1 X.2.2.1 X.2.2.2.1 rfl dX1_standOf_40
    · rw [if_neg hc] at hf
      refine v_iconst (pc := 35) (v := (1 : Int32)) C dX1_standOf_35 rfl ?_
      refine v_goto (pc := 36) (tgt := 40) C dX1_standOf_36 rfl ?_
      cases hf
      exact v_ireturn (pc := 40) C X.2.1 X.2.2.1 X.2.2.2.1 rfl dX1_standOf_40
  · rw [if_pos (Decidable.of_not_not hc)] at hf
    refine v_iconst (pc := 23) (v := (2 : Int32)) C dX1_standOf_23 rfl ?_
    refine v_goto (pc := 24) (tgt := 40) C dX1_standOf_24 rfl ?_
    cases hf
    exact v_ireturn (pc := 40) C X.2.1 X.2.2.1 X.2.2.2.1 rfl dX1_standOf_40
theorem mX1_standOf {l : Launch} {D : aD} {h : aH} {a0 : Option Nat} {a1 : Int32} {q : Nat ⊕ Int32} {g : aH} (hst : l.stackTraces = false) (hf : fX1_standOf D h a0 a1 = some (q, g)) : aM l D yX1_standOf cX1_standOf 4 (some .int) 13 3161 [va_rf a0, .int a1] h (wI q, g) :=
  aM.ofX [(false, va_rf a0), (false, .int a1)] rfl (ap_r (ap_c rfl ap_0)) (by decide +kernel) hst (al_of (aw_r (aw_i aw_0)) (by decide)) fun p e s m args below meth c X => V.sub (lv' := [(0, false, va_rf a0), (1, false, .int a1)]) [0, 1] rfl (vX1_standOf X hf)
def fX1_orderAt (D : aD) (h : aH) (a0 : Option Nat) (a1 : Int32) (a2 : Int32) : Option ((Nat ⊕ Int32) × aH) :=
  (aMk D h (8, dfX9)).bind fun h1 =>
  (aIs h1 0 a0).bind fun _ =>
  bndT (fX1_panel D h1 a0 a1) fun x3 h4 =>
  (fX9_init D h4 (some h.1) a0 x3).bind fun h7 =>
  if a2 < 0 then
  (some (.inr (-1 : Int32), h7))
  else
  ((gR h7 8 4 (some h.1)).bind fun x8 =>
  (eN h7 x8).bind fun x9 =>
  if a2 < x9 then
  ((gR h7 8 1 (some h.1)).bind fun x10 =>
  (gR h7 8 4 (some h.1)).bind fun x11 =>
  (eI h7 x11 a2).bind fun x12 =>
  (aIs h7 15 x10).bind fun _ =>
  (fJ2_get D h7 x10 x12).bind fun x14 =>
  (aCast h7 [4] x14).bind fun _ =>
  (gI h7 4 0 x14).bind fun x17 =>
  some (.inr x17, h7))
  else
  (some (.inr (-1 : Int32), h7)))
theorem vX1_orderAt {h : aH} {a0 : Option Nat} {a1 : Int32} {a2 : Int32} {q : Nat ⊕ Int32} {g : aH} (X : aX p l R s m meth c D n0 s0 yX1_orderAt cX1_orderAt 12 3140 4 (some .int) h0) (hf : fX1_orderAt D h a0 a1 a2 = some (q, g)) : V p l e R s m args below meth c D n0 s0 (aEnd D below args s h0 (wI q, g)) h 0 [(0, false, va_rf a0), (1, false, .int a1), (2, false, .int a2)] [] := by
  have C := X.1
  unfold fX1_orderAt at hf
  obtain ⟨h1, eh1, hf⟩ := oB hf
  refine v_new (pc := 0) (t := 8) (fs := dfX9) (T := TX9) (N := 8) C rfl in_X9 tyX9 tyX9_ok q862 q863 q120 dfX9_ok rfl eh1 dX1_orderAt_0 ?_
  refine v_dup (pc := 3) C dX1_orderAt_3 (va_rfc _) ?_
  refine v_aload_n (pc := 4) (j := 0) C dX1_orderAt_4 rfl rfl ?_
  refine v_aload_n (pc := 5) (j := 0) C dX1_orderAt_5 rfl rfl ?_
  refine v_iload_n (pc := 6) (j := 1) C dX1_orderAt_6 rfl rfl ?_
  obtain ⟨b2, eb2, hf⟩ := oB hf
  obtain ⟨rb2, _, kb2⟩ := aIs_eq eb2
  rcases bndT_eq hf with ⟨_, _, ex3, qx3⟩ | ⟨x3, h4, ex3, hf⟩
  · cases qx3; exact v_ofDx (pc := 7) C X.2.1 X.2.2.1 rfl X.2.2.2.2.1 (d_V (pc := 7) C (As := [.int a1]) (rest := [va_rf a0, va_rf (some h.1), va_rf (some h.1)]) rb2 kb2 nt_0 q1705 yi_X1_panel_FigureSurvey yk_X1_panel rfl (by decide) (by decide) (Nat.le_trans (aw_r (aw_r (aw_r aw_0))) (by decide)) rfl (mX1_panel C.st ex3) dX1_orderAt_7)
  refine v_call (pc := 7) (d_V (pc := 7) C (As := [.int a1]) (rest := [va_rf a0, va_rf (some h.1), va_rf (some h.1)]) rb2 kb2 nt_0 q1705 yi_X1_panel_FigureSurvey yk_X1_panel rfl (by decide) (by decide) (Nat.le_trans (aw_r (aw_r (aw_r aw_0))) (by decide)) rfl (mX1_panel C.st ex3) dX1_orderAt_7) ?_
  obtain ⟨h7, ex6, hf⟩ := oB hf
  refine v_callU (pc := 10) (d_I (pc := 10) C (As := [va_rf a0, va_rf x3]) (rest := [va_rf (some h.1)]) rfl rfl rfl q864 q865 yk_X9_init rfl (by decide) (by decide) (Nat.le_trans (aw_r aw_0) (by decide)) rfl (mX9_init C.st ex6) dX1_orderAt_10) ?_
  refine v_astore_n (pc := 13) (lv' := [(3, false, va_rf (some h.1)), (0, false, va_rf a0), (1, false, .int a1), (2, false, .int a2)]) C dX1_orderAt_13 rfl (by decide) rfl ?_
  refine v_iload_n (pc := 14) (j := 3) C dX1_orderAt_14 rfl rfl ?_
  refine v_if_lt (pc := 15) (tgt := 27) C dX1_orderAt_15 rfl (fun hc => ?_) (fun hc => ?_)
  · rw [if_pos hc] at hf
    refine v_iconst (pc := 27) (v := (-1 : Int32)) C dX1_orderAt_27 rfl ?_
    refine v_goto (pc := 28) (tgt := 50) C dX1_orderAt_28 rfl ?_
    cases hf
    exact v_ireturn (pc := 50) C X.2.1 X.2.2.1 X.2.2.2.1 rfl dX1_orderAt_50
  · rw [if_neg hc] at hf
    refine v_iload_n (pc := 18) (j := 3) C dX1_orderAt_18 rfl rfl ?_
    refine v_aload_n (pc := 19) (j := 0) C dX1_orderAt_19 rfl rfl ?_
    obtain ⟨x8, ex8, hf⟩ := oB hf
    refine v_getF (pc := 20) C lk_X1_353 (gR_eq ex8) dX1_orderAt_20 ?_
    obtain ⟨x9, ex9, hf⟩ := oB hf
    refine v_alen (pc := 23) C ex9 dX1_orderAt_23 ?_
    refine v_icmp_lt (pc := 24) (tgt := 31) C dX1_orderAt_24 rfl (fun hc => ?_) (fun hc => ?_)
    · rw [if_pos hc] at hf
      refine v_aload_n (pc := 31) (j := 0) C dX1_orderAt_31 rfl rfl ?_
      obtain ⟨x10, ex10, hf⟩ := oB hf
      refine v_getF (pc := 32) C lk_X1_356 (gR_eq ex10) dX1_orderAt_32 ?_
      refine v_aload_n (pc := 35) (j := 0) C dX1_orderAt_35 rfl rfl ?_
      obtain ⟨x11, ex11, hf⟩ := oB hf
      refine v_getF (pc := 36) C lk_X1_353 (gR_eq ex11) dX1_orderAt_36 ?_
      refine v_iload_n (pc := 39) (j := 3) C dX1_orderAt_39 rfl rfl ?_
      obtain ⟨x12, ex12, hf⟩ := oB hf
      refine v_iaload (pc := 40) C ex12 dX1_orderAt_40 ?_
      obtain ⟨b13, eb13, hf⟩ := oB hf
      obtain ⟨rb13, _, kb13⟩ := aIs_eq eb13
      obtain ⟨x14, ex14, hf⟩ := oB hf
      refine v_call (pc := 41) (d_V (pc := 41) C (As := [.int x12]) (rest := []) rb13 kb13 nt_15 q379 yi_J2_get_java_util_ArrayList yk_J2_get rfl (by decide) (by decide) (Nat.le_trans aw_0 (by decide)) rfl (mJ2_get C.st ex14) dX1_orderAt_41) ?_
      obtain ⟨_, e16, hf⟩ := oB hf
      refine v_cast (pc := 44) C q514 ct_FigureSurvey_Figure e16 dX1_orderAt_44 ?_
      obtain ⟨x17, ex17, hf⟩ := oB hf
      refine v_getF (pc := 47) C lk_X1_359 (gI_eq ex17) dX1_orderAt_47 ?_
      cases hf
      exact v_ireturn (pc := 50) C X.2.1 X.2.2.1 X.2.2.2.1 rfl dX1_orderAt_50
    · rw [if_neg hc] at hf
      refine v_iconst (pc := 27) (v := (-1 : Int32)) C dX1_orderAt_27 rfl ?_
      refine v_goto (pc := 28) (tgt := 50) C dX1_orderAt_28 rfl ?_
      cases hf
      exact v_ireturn (pc := 50) C X.2.1 X.2.2.1 X.2.2.2.1 rfl dX1_orderAt_50
theorem mX1_orderAt {l : Launch} {D : aD} {h : aH} {a0 : Option Nat} {a1 : Int32} {a2 : Int32} {q : Nat ⊕ Int32} {g : aH} (hst : l.stackTraces = false) (hf : fX1_orderAt D h a0 a1 a2 = some (q, g)) : aM l D yX1_orderAt cX1_orderAt 4 (some .int) 12 3140 [va_rf a0, .int a1, .int a2] h (wI q, g) :=
  aM.ofX [(false, va_rf a0), (false, .int a1), (false, .int a2)] rfl (ap_r (ap_c rfl (ap_c rfl ap_0))) (by decide +kernel) hst (al_of (aw_r (aw_i (aw_i aw_0))) (by decide)) fun p e s m args below meth c X => V.sub (lv' := [(0, false, va_rf a0), (1, false, .int a1), (2, false, .int a2)]) [0, 1, 2] rfl (vX1_orderAt X hf)
def fX1_brokenWeight (D : aD) (h : aH) (a0 : Option Nat) (a1 : Int32) : Option ((Nat ⊕ Int32) × aH) :=
  (aMk D h (8, dfX9)).bind fun h1 =>
  (aIs h1 0 a0).bind fun _ =>
  bndT (fX1_panel D h1 a0 a1) fun x3 h4 =>
  (fX9_init D h4 (some h.1) a0 x3).bind fun h7 =>
  (aIs h7 8 (some h.1)).bind fun _ =>
  (fX9_brokenWeight D h7 (some h.1)).bind fun x9 =>
  some (.inr x9, h7)
theorem vX1_brokenWeight {h : aH} {a0 : Option Nat} {a1 : Int32} {q : Nat ⊕ Int32} {g : aH} (X : aX p l R s m meth c D n0 s0 yX1_brokenWeight cX1_brokenWeight 12 3140 2 (some .int) h0) (hf : fX1_brokenWeight D h a0 a1 = some (q, g)) : V p l e R s m args below meth c D n0 s0 (aEnd D below args s h0 (wI q, g)) h 0 [(0, false, va_rf a0), (1, false, .int a1)] [] := by
  have C := X.1
  unfold fX1_brokenWeight at hf
  obtain ⟨h1, eh1, hf⟩ := oB hf
  refine v_new (pc := 0) (t := 8) (fs := dfX9) (T := TX9) (N := 8) C rfl in_X9 tyX9 tyX9_ok q862 q863 q120 dfX9_ok rfl eh1 dX1_brokenWeight_0 ?_
  refine v_dup (pc := 3) C dX1_brokenWeight_3 (va_rfc _) ?_
  refine v_aload_n (pc := 4) (j := 0) C dX1_brokenWeight_4 rfl rfl ?_
  refine v_aload_n (pc := 5) (j := 0) C dX1_brokenWeight_5 rfl rfl ?_
  refine v_iload_n (pc := 6) (j := 1) C dX1_brokenWeight_6 rfl rfl ?_
  obtain ⟨b2, eb2, hf⟩ := oB hf
  obtain ⟨rb2, _, kb2⟩ := aIs_eq eb2
  rcases bndT_eq hf with ⟨_, _, ex3, qx3⟩ | ⟨x3, h4, ex3, hf⟩
  · cases qx3; exact v_ofDx (pc := 7) C X.2.1 X.2.2.1 rfl X.2.2.2.2.1 (d_V (pc := 7) C (As := [.int a1]) (rest := [va_rf a0, va_rf (some h.1), va_rf (some h.1)]) rb2 kb2 nt_0 q1705 yi_X1_panel_FigureSurvey yk_X1_panel rfl (by decide) (by decide) (Nat.le_trans (aw_r (aw_r (aw_r aw_0))) (by decide)) rfl (mX1_panel C.st ex3) dX1_brokenWeight_7)
  refine v_call (pc := 7) (d_V (pc := 7) C (As := [.int a1]) (rest := [va_rf a0, va_rf (some h.1), va_rf (some h.1)]) rb2 kb2 nt_0 q1705 yi_X1_panel_FigureSurvey yk_X1_panel rfl (by decide) (by decide) (Nat.le_trans (aw_r (aw_r (aw_r aw_0))) (by decide)) rfl (mX1_panel C.st ex3) dX1_brokenWeight_7) ?_
  obtain ⟨h7, ex6, hf⟩ := oB hf
  refine v_callU (pc := 10) (d_I (pc := 10) C (As := [va_rf a0, va_rf x3]) (rest := [va_rf (some h.1)]) rfl rfl rfl q864 q865 yk_X9_init rfl (by decide) (by decide) (Nat.le_trans (aw_r aw_0) (by decide)) rfl (mX9_init C.st ex6) dX1_brokenWeight_10) ?_
  obtain ⟨b8, eb8, hf⟩ := oB hf
  obtain ⟨rb8, _, kb8⟩ := aIs_eq eb8
  obtain ⟨x9, ex9, hf⟩ := oB hf
  refine v_call (pc := 13) (d_V (pc := 13) C (As := []) (rest := []) rb8 kb8 nt_8 q2148 yi_X9_brokenWeight_FigureSurvey_Scene yk_X9_brokenWeight rfl (by decide) (by decide) (Nat.le_trans aw_0 (by decide)) rfl (mX9_brokenWeight C.st ex9) dX1_brokenWeight_13) ?_
  cases hf
  exact v_ireturn (pc := 16) C X.2.1 X.2.2.1 X.2.2.2.1 rfl dX1_brokenWeight_16
theorem mX1_brokenWeight {l : Launch} {D : aD} {h : aH} {a0 : Option Nat} {a1 : Int32} {q : Nat ⊕ Int32} {g : aH} (hst : l.stackTraces = false) (hf : fX1_brokenWeight D h a0 a1 = some (q, g)) : aM l D yX1_brokenWeight cX1_brokenWeight 2 (some .int) 12 3140 [va_rf a0, .int a1] h (wI q, g) :=
  aM.ofX [(false, va_rf a0), (false, .int a1)] rfl (ap_r (ap_c rfl ap_0)) (by decide +kernel) hst (al_of (aw_r (aw_i aw_0)) (by decide)) fun p e s m args below meth c X => V.sub (lv' := [(0, false, va_rf a0), (1, false, .int a1)]) [0, 1] rfl (vX1_brokenWeight X hf)
def fX1_isAbove (D : aD) (h : aH) (a0 : Option Nat) (a1 : Int32) (a2 : Int32) : Option ((Nat ⊕ Int32) × aH) :=
  (aIs h 0 a0).bind fun _ =>
  bndT (fX1_figure D h a0 a1) fun x2 h3 =>
  (aIs h3 0 a0).bind fun _ =>
  bndT (fX1_figure D h3 a0 a2) fun x5 h6 =>
  (gR h6 4 1 x2).bind fun x7 =>
  (gR h6 4 1 x5).bind fun x8 =>
  if x7 = x8 then
  ((aIs h6 0 a0).bind fun _ =>
  bnd2 (fX1_scene D h6 a0 x2) fun x10 h11 =>
  (aIs h11 8 x10).bind fun _ =>
  (fX9_index D h11 x10 x2).bind fun x13 =>
  (aIs h11 8 x10).bind fun _ =>
  (fX9_index D h11 x10 x5).bind fun x16 =>
  if x13 < 0 then
  (some (.inr (0 : Int32), h11))
  else
  (if x16 < 0 then
  (some (.inr (0 : Int32), h11))
  else
  ((gR h11 8 5 x10).bind fun x18 =>
  (eR h11 x18 x13).bind fun x19 =>
  (eZ h11 x19 x16).bind fun x20 =>
  if x20 = 0 then
  (some (.inr (0 : Int32), h11))
  else
  (some (.inr (1 : Int32), h11)))))
  else
  (some (.inr (0 : Int32), h6))
theorem vX1_isAbove {h : aH} {a0 : Option Nat} {a1 : Int32} {a2 : Int32} {q : Nat ⊕ Int32} {g : aH} (X : aX p l R s m meth c D n0 s0 yX1_isAbove cX1_isAbove 13 3161 8 (some .boolean) h0) (hf : fX1_isAbove D h a0 a1 a2 = some (q, g)) : V p l e R s m args below meth c D n0 s0 (aEnd D below args s h0 (wI q, g)) h 0 [(0, false, va_rf a0), (1, false, .int a1), (2, false, .int a2)] [] := by
  have C := X.1
  unfold fX1_isAbove at hf
  refine v_aload_n (pc := 0) (j := 0) C dX1_isAbove_0 rfl rfl ?_
  refine v_iload_n (pc := 1) (j := 1) C dX1_isAbove_1 rfl rfl ?_
  obtain ⟨b1, eb1, hf⟩ := oB hf
  obtain ⟨rb1, _, kb1⟩ := aIs_eq eb1
  rcases bndT_eq hf with ⟨_, _, ex2, qx2⟩ | ⟨x2, h3, ex2, hf⟩
  · cases qx2; exact v_ofDx (pc := 2) C X.2.1 X.2.2.1 rfl X.2.2.2.2.1 (d_V (pc := 2) C (As := [.int a1]) (rest := []) rb1 kb1 nt_0 q1849 yi_X1_figure_FigureSurvey yk_X1_figure rfl (by decide) (by decide) (Nat.le_trans aw_0 (by decide)) rfl (mX1_figure C.st ex2) dX1_isAbove_2)
  refine v_call (pc := 2) (d_V (pc := 2) C (As := [.int a1]) (rest := []) rb1 kb1 nt_0 q1849 yi_X1_figure_FigureSurvey yk_X1_figure rfl (by decide) (by decide) (Nat.le_trans aw_0 (by decide)) rfl (mX1_figure C.st ex2) dX1_isAbove_2) ?_
  refine v_astore_n (pc := 5) (lv' := [(3, false, va_rf x2), (0, false, va_rf a0), (1, false, .int a1), (2, false, .int a2)]) C dX1_isAbove_5 rfl (by decide) rfl ?_
  refine v_aload_n (pc := 6) (j := 1) C dX1_isAbove_6 rfl rfl ?_
  refine v_iload_n (pc := 7) (j := 3) C dX1_isAbove_7 rfl rfl ?_
  obtain ⟨b4, eb4, hf⟩ := oB hf
  obtain ⟨rb4, _, kb4⟩ := aIs_eq eb4
  rcases bndT_eq hf with ⟨_, _, ex5, qx5⟩ | ⟨x5, h6, ex5, hf⟩
  · cases qx5; exact v_ofDx (pc := 8) C X.2.1 X.2.2.1 rfl X.2.2.2.2.1 (d_V (pc := 8) C (As := [.int a2]) (rest := []) rb4 kb4 nt_0 q1849 yi_X1_figure_FigureSurvey yk_X1_figure rfl (by decide) (by decide) (Nat.le_trans aw_0 (by decide)) rfl (mX1_figure C.st ex5) dX1_isAbove_8)
  refine v_call (pc := 8) (d_V (pc := 8) C (As := [.int a2]) (rest := []) rb4 kb4 nt_0 q1849 yi_X1_figure_FigureSurvey yk_X1_figure rfl (by decide) (by decide) (Nat.le_trans aw_0 (by decide)) rfl (mX1_figure C.st ex5) dX1_isAbove_8) ?_
  refine v_astore (pc := 11) (lv' := [(4, false, va_rf x5), (3, false, va_rf x2), (0, false, va_rf a0), (1, false, .int a1), (2, false, .int a2)]) C dX1_isAbove_11 (by decide) rfl ?_
  refine v_aload_n (pc := 13) (j := 1) C dX1_isAbove_13 rfl rfl ?_
  obtain ⟨x7, ex7, hf⟩ := oB hf
  refine v_getF (pc := 14) C lk_X1_31 (gR_eq ex7) dX1_isAbove_14 ?_
  refine v_aload (pc := 17) (j := 0) C dX1_isAbove_17 rfl ?_
  obtain ⟨x8, ex8, hf⟩ := oB hf
  refine v_getF (pc := 19) C lk_X1_31 (gR_eq ex8) dX1_isAbove_19 ?_
  refine v_acmp_eq (pc := 22) (tgt := 27) C dX1_isAbove_22 rfl (fun hc => ?_) (fun hc => ?_)
  · rw [if_pos hc] at hf
    refine v_aload_n (pc := 27) (j := 2) C dX1_isAbove_27 rfl rfl ?_
    refine v_aload_n (pc := 28) (j := 1) C dX1_isAbove_28 rfl rfl ?_
    obtain ⟨b9, eb9, hf⟩ := oB hf
    obtain ⟨rb9, _, kb9⟩ := aIs_eq eb9
    obtain ⟨x10, h11, ex10, hf⟩ := bnd2_eq hf
    refine v_call (pc := 29) (d_V (pc := 29) C (As := [va_rf x2]) (rest := []) rb9 kb9 nt_0 q2130 yi_X1_scene_FigureSurvey yk_X1_scene rfl (by decide) (by decide) (Nat.le_trans aw_0 (by decide)) rfl (mX1_scene C.st ex10) dX1_isAbove_29) ?_
    refine v_astore (pc := 32) (lv' := [(5, false, va_rf x10), (4, false, va_rf x5), (3, false, va_rf x2), (0, false, va_rf a0), (1, false, .int a1), (2, false, .int a2)]) C dX1_isAbove_32 (by decide) rfl ?_
    refine v_aload (pc := 34) (j := 0) C dX1_isAbove_34 rfl ?_
    refine v_aload_n (pc := 36) (j := 2) C dX1_isAbove_36 rfl rfl ?_
    obtain ⟨b12, eb12, hf⟩ := oB hf
    obtain ⟨rb12, _, kb12⟩ := aIs_eq eb12
    obtain ⟨x13, ex13, hf⟩ := oB hf
    refine v_call (pc := 37) (d_V (pc := 37) C (As := [va_rf x2]) (rest := []) rb12 kb12 nt_8 q2156 yi_X9_index_FigureSurvey_Scene yk_X9_index rfl (by decide) (by decide) (Nat.le_trans aw_0 (by decide)) rfl (mX9_index C.st ex13) dX1_isAbove_37) ?_
    refine v_istore (pc := 40) (lv' := [(6, false, .int x13), (5, false, va_rf x10), (4, false, va_rf x5), (3, false, va_rf x2), (0, false, va_rf a0), (1, false, .int a1), (2, false, .int a2)]) C dX1_isAbove_40 (by decide) rfl ?_
    refine v_aload (pc := 42) (j := 1) C dX1_isAbove_42 rfl ?_
    refine v_aload (pc := 44) (j := 2) C dX1_isAbove_44 rfl ?_
    obtain ⟨b15, eb15, hf⟩ := oB hf
    obtain ⟨rb15, _, kb15⟩ := aIs_eq eb15
    obtain ⟨x16, ex16, hf⟩ := oB hf
    refine v_call (pc := 46) (d_V (pc := 46) C (As := [va_rf x5]) (rest := []) rb15 kb15 nt_8 q2156 yi_X9_index_FigureSurvey_Scene yk_X9_index rfl (by decide) (by decide) (Nat.le_trans aw_0 (by decide)) rfl (mX9_index C.st ex16) dX1_isAbove_46) ?_
    refine v_istore (pc := 49) (lv' := [(7, false, .int x16), (6, false, .int x13), (5, false, va_rf x10), (4, false, va_rf x5), (3, false, va_rf x2), (0, false, va_rf a0), (1, false, .int a1), (2, false, .int a2)]) C dX1_isAbove_49 (by decide) rfl ?_
    refine v_iload (pc := 51) (j := 1) C dX1_isAbove_51 rfl ?_
    refine v_if_lt (pc := 53) (tgt := 79) C dX1_isAbove_53 rfl (fun hc => ?_) (fun hc => ?_)
    · rw [if_pos hc] at hf
      refine v_iconst (pc := 79) (v := (0 : Int32)) C dX1_isAbove_79 rfl ?_
      cases hf
      exact v_zreturn (pc := 80) C X.2.1 X.2.2.1 X.2.2.2.1 (by decide) rfl dX1_isAbove_80
    · rw [if_neg hc] at hf
      refine v_iload (pc := 56) (j := 0) C dX1_isAbove_56 rfl ?_
      refine v_if_lt (pc := 58) (tgt := 79) C dX1_isAbove_58 rfl (fun hc => ?_) (fun hc => ?_)
      · rw [if_pos hc] at hf
        refine v_iconst (pc := 79) (v := (0 : Int32)) C dX1_isAbove_79 rfl ?_
        cases hf
        exact v_zreturn (pc := 80) C X.2.1 X.2.2.1 X.2.2.2.1 (by decide) rfl dX1_isAbove_80
      · rw [if_neg hc] at hf
        refine v_aload (pc := 61) (j := 2) C dX1_isAbove_61 rfl ?_
        obtain ⟨x18, ex18, hf⟩ := oB hf
        refine v_getF (pc := 63) C lk_X1_367 (gR_eq ex18) dX1_isAbove_63 ?_
        refine v_iload (pc := 66) (j := 1) C dX1_isAbove_66 rfl ?_
        obtain ⟨x19, ex19, hf⟩ := oB hf
        refine v_aaload (pc := 68) C ex19 dX1_isAbove_68 ?_
        refine v_iload (pc := 69) (j := 0) C dX1_isAbove_69 rfl ?_
        obtain ⟨x20, ex20, hf⟩ := oB hf
        refine v_baload (pc := 71) C ex20 dX1_isAbove_71 ?_
        refine v_if_eq (pc := 72) (tgt := 79) C dX1_isAbove_72 rfl (fun hc => ?_) (fun hc => ?_)
        · rw [if_pos hc] at hf
          refine v_iconst (pc := 79) (v := (0 : Int32)) C dX1_isAbove_79 rfl ?_
          cases hf
          exact v_zreturn (pc := 80) C X.2.1 X.2.2.1 X.2.2.2.1 (by decide) rfl dX1_isAbove_80
        · rw [if_neg hc] at hf
          refine v_iconst (pc := 75) (v := (1 : Int32)) C dX1_isAbove_75 rfl ?_
          refine v_goto (pc := 76) (tgt := 80) C dX1_isAbove_76 rfl ?_
          cases hf
          exact v_zreturn (pc := 80) C X.2.1 X.2.2.1 X.2.2.2.1 (by decide) rfl dX1_isAbove_80
  · rw [if_neg hc] at hf
    refine v_iconst (pc := 25) (v := (0 : Int32)) C dX1_isAbove_25 rfl ?_
    cases hf
    exact v_zreturn (pc := 26) C X.2.1 X.2.2.1 X.2.2.2.1 (by decide) rfl dX1_isAbove_26
theorem mX1_isAbove {l : Launch} {D : aD} {h : aH} {a0 : Option Nat} {a1 : Int32} {a2 : Int32} {q : Nat ⊕ Int32} {g : aH} (hst : l.stackTraces = false) (hf : fX1_isAbove D h a0 a1 a2 = some (q, g)) : aM l D yX1_isAbove cX1_isAbove 8 (some .boolean) 13 3161 [va_rf a0, .int a1, .int a2] h (wI q, g) :=
  aM.ofX [(false, va_rf a0), (false, .int a1), (false, .int a2)] rfl (ap_r (ap_c rfl (ap_c rfl ap_0))) (by decide +kernel) hst (al_of (aw_r (aw_i (aw_i aw_0))) (by decide)) fun p e s m args below meth c X => V.sub (lv' := [(0, false, va_rf a0), (1, false, .int a1), (2, false, .int a2)]) [0, 1, 2] rfl (vX1_isAbove X hf)
def fX1_earliest (D : aD) (h : aH) (a0 : Option Nat) (a1 : Int32) : Option ((Nat ⊕ Int32) × aH) :=
  (aIs h 0 a0).bind fun _ =>
  bndT (fX1_figure D h a0 a1) fun x2 h3 =>
  (aIs h3 0 a0).bind fun _ =>
  bnd2 (fX1_scene D h3 a0 x2) fun x5 h6 =>
  (aIs h6 8 x5).bind fun _ =>
  bnd2 (fX9_year D h6 x5 x2 (0 : Int32)) fun x8 h9 =>
  some (.inr x8, h9)
theorem vX1_earliest {h : aH} {a0 : Option Nat} {a1 : Int32} {q : Nat ⊕ Int32} {g : aH} (X : aX p l R s m meth c D n0 s0 yX1_earliest cX1_earliest 25 3439 3 (some .int) h0) (hf : fX1_earliest D h a0 a1 = some (q, g)) : V p l e R s m args below meth c D n0 s0 (aEnd D below args s h0 (wI q, g)) h 0 [(0, false, va_rf a0), (1, false, .int a1)] [] := by
  have C := X.1
  unfold fX1_earliest at hf
  refine v_aload_n (pc := 0) (j := 0) C dX1_earliest_0 rfl rfl ?_
  refine v_iload_n (pc := 1) (j := 1) C dX1_earliest_1 rfl rfl ?_
  obtain ⟨b1, eb1, hf⟩ := oB hf
  obtain ⟨rb1, _, kb1⟩ := aIs_eq eb1
  rcases bndT_eq hf with ⟨_, _, ex2, qx2⟩ | ⟨x2, h3, ex2, hf⟩
  · cases qx2; exact v_ofDx (pc := 2) C X.2.1 X.2.2.1 rfl X.2.2.2.2.1 (d_V (pc := 2) C (As := [.int a1]) (rest := []) rb1 kb1 nt_0 q1849 yi_X1_figure_FigureSurvey yk_X1_figure rfl (by decide) (by decide) (Nat.le_trans aw_0 (by decide)) rfl (mX1_figure C.st ex2) dX1_earliest_2)
  refine v_call (pc := 2) (d_V (pc := 2) C (As := [.int a1]) (rest := []) rb1 kb1 nt_0 q1849 yi_X1_figure_FigureSurvey yk_X1_figure rfl (by decide) (by decide) (Nat.le_trans aw_0 (by decide)) rfl (mX1_figure C.st ex2) dX1_earliest_2) ?_
  refine v_astore_n (pc := 5) (lv' := [(2, false, va_rf x2), (0, false, va_rf a0), (1, false, .int a1)]) C dX1_earliest_5 rfl (by decide) rfl ?_
  refine v_aload_n (pc := 6) (j := 1) C dX1_earliest_6 rfl rfl ?_
  refine v_aload_n (pc := 7) (j := 0) C dX1_earliest_7 rfl rfl ?_
  obtain ⟨b4, eb4, hf⟩ := oB hf
  obtain ⟨rb4, _, kb4⟩ := aIs_eq eb4
  obtain ⟨x5, h6, ex5, hf⟩ := bnd2_eq hf
  refine v_call (pc := 8) (d_V (pc := 8) C (As := [va_rf x2]) (rest := []) rb4 kb4 nt_0 q2130 yi_X1_scene_FigureSurvey yk_X1_scene rfl (by decide) (by decide) (Nat.le_trans aw_0 (by decide)) rfl (mX1_scene C.st ex5) dX1_earliest_8) ?_
  refine v_aload_n (pc := 11) (j := 0) C dX1_earliest_11 rfl rfl ?_
  refine v_iconst (pc := 12) (v := (0 : Int32)) C dX1_earliest_12 rfl ?_
  obtain ⟨b7, eb7, hf⟩ := oB hf
  obtain ⟨rb7, _, kb7⟩ := aIs_eq eb7
  obtain ⟨x8, h9, ex8, hf⟩ := bnd2_eq hf
  refine v_call (pc := 13) (d_V (pc := 13) C (As := [va_rf x2, .int (0 : Int32)]) (rest := []) rb7 kb7 nt_8 q1349 yi_X9_year_FigureSurvey_Scene yk_X9_year rfl (by decide) (by decide) (Nat.le_trans aw_0 (by decide)) rfl (mX9_year C.st ex8) dX1_earliest_13) ?_
  cases hf
  exact v_ireturn (pc := 16) C X.2.1 X.2.2.1 X.2.2.2.1 rfl dX1_earliest_16
theorem mX1_earliest {l : Launch} {D : aD} {h : aH} {a0 : Option Nat} {a1 : Int32} {q : Nat ⊕ Int32} {g : aH} (hst : l.stackTraces = false) (hf : fX1_earliest D h a0 a1 = some (q, g)) : aM l D yX1_earliest cX1_earliest 3 (some .int) 25 3439 [va_rf a0, .int a1] h (wI q, g) :=
  aM.ofX [(false, va_rf a0), (false, .int a1)] rfl (ap_r (ap_c rfl ap_0)) (by decide +kernel) hst (al_of (aw_r (aw_i aw_0)) (by decide)) fun p e s m args below meth c X => V.sub (lv' := [(0, false, va_rf a0), (1, false, .int a1)]) [0, 1] rfl (vX1_earliest X hf)
def fX1_latest (D : aD) (h : aH) (a0 : Option Nat) (a1 : Int32) : Option ((Nat ⊕ Int32) × aH) :=
  (aIs h 0 a0).bind fun _ =>
  bndT (fX1_figure D h a0 a1) fun x2 h3 =>
  (aIs h3 0 a0).bind fun _ =>
  bnd2 (fX1_scene D h3 a0 x2) fun x5 h6 =>
  (aIs h6 8 x5).bind fun _ =>
  bnd2 (fX9_year D h6 x5 x2 (1 : Int32)) fun x8 h9 =>
  some (.inr x8, h9)
theorem vX1_latest {h : aH} {a0 : Option Nat} {a1 : Int32} {q : Nat ⊕ Int32} {g : aH} (X : aX p l R s m meth c D n0 s0 yX1_latest cX1_latest 25 3439 3 (some .int) h0) (hf : fX1_latest D h a0 a1 = some (q, g)) : V p l e R s m args below meth c D n0 s0 (aEnd D below args s h0 (wI q, g)) h 0 [(0, false, va_rf a0), (1, false, .int a1)] [] := by
  have C := X.1
  unfold fX1_latest at hf
  refine v_aload_n (pc := 0) (j := 0) C dX1_latest_0 rfl rfl ?_
  refine v_iload_n (pc := 1) (j := 1) C dX1_latest_1 rfl rfl ?_
  obtain ⟨b1, eb1, hf⟩ := oB hf
  obtain ⟨rb1, _, kb1⟩ := aIs_eq eb1
  rcases bndT_eq hf with ⟨_, _, ex2, qx2⟩ | ⟨x2, h3, ex2, hf⟩
  · cases qx2; exact v_ofDx (pc := 2) C X.2.1 X.2.2.1 rfl X.2.2.2.2.1 (d_V (pc := 2) C (As := [.int a1]) (rest := []) rb1 kb1 nt_0 q1849 yi_X1_figure_FigureSurvey yk_X1_figure rfl (by decide) (by decide) (Nat.le_trans aw_0 (by decide)) rfl (mX1_figure C.st ex2) dX1_latest_2)
  refine v_call (pc := 2) (d_V (pc := 2) C (As := [.int a1]) (rest := []) rb1 kb1 nt_0 q1849 yi_X1_figure_FigureSurvey yk_X1_figure rfl (by decide) (by decide) (Nat.le_trans aw_0 (by decide)) rfl (mX1_figure C.st ex2) dX1_latest_2) ?_
  refine v_astore_n (pc := 5) (lv' := [(2, false, va_rf x2), (0, false, va_rf a0), (1, false, .int a1)]) C dX1_latest_5 rfl (by decide) rfl ?_
  refine v_aload_n (pc := 6) (j := 1) C dX1_latest_6 rfl rfl ?_
  refine v_aload_n (pc := 7) (j := 0) C dX1_latest_7 rfl rfl ?_
  obtain ⟨b4, eb4, hf⟩ := oB hf
  obtain ⟨rb4, _, kb4⟩ := aIs_eq eb4
  obtain ⟨x5, h6, ex5, hf⟩ := bnd2_eq hf
  refine v_call (pc := 8) (d_V (pc := 8) C (As := [va_rf x2]) (rest := []) rb4 kb4 nt_0 q2130 yi_X1_scene_FigureSurvey yk_X1_scene rfl (by decide) (by decide) (Nat.le_trans aw_0 (by decide)) rfl (mX1_scene C.st ex5) dX1_latest_8) ?_
  refine v_aload_n (pc := 11) (j := 0) C dX1_latest_11 rfl rfl ?_
  refine v_iconst (pc := 12) (v := (1 : Int32)) C dX1_latest_12 rfl ?_
  obtain ⟨b7, eb7, hf⟩ := oB hf
  obtain ⟨rb7, _, kb7⟩ := aIs_eq eb7
  obtain ⟨x8, h9, ex8, hf⟩ := bnd2_eq hf
  refine v_call (pc := 13) (d_V (pc := 13) C (As := [va_rf x2, .int (1 : Int32)]) (rest := []) rb7 kb7 nt_8 q1349 yi_X9_year_FigureSurvey_Scene yk_X9_year rfl (by decide) (by decide) (Nat.le_trans aw_0 (by decide)) rfl (mX9_year C.st ex8) dX1_latest_13) ?_
  cases hf
  exact v_ireturn (pc := 16) C X.2.1 X.2.2.1 X.2.2.2.1 rfl dX1_latest_16
theorem mX1_latest {l : Launch} {D : aD} {h : aH} {a0 : Option Nat} {a1 : Int32} {q : Nat ⊕ Int32} {g : aH} (hst : l.stackTraces = false) (hf : fX1_latest D h a0 a1 = some (q, g)) : aM l D yX1_latest cX1_latest 3 (some .int) 25 3439 [va_rf a0, .int a1] h (wI q, g) :=
  aM.ofX [(false, va_rf a0), (false, .int a1)] rfl (ap_r (ap_c rfl ap_0)) (by decide +kernel) hst (al_of (aw_r (aw_i aw_0)) (by decide)) fun p e s m args below meth c X => V.sub (lv' := [(0, false, va_rf a0), (1, false, .int a1)]) [0, 1] rfl (vX1_latest X hf)
def fX1_reasonFor (D : aD) (h : aH) (a0 : Option Nat) (a1 : Int32) (a2 : Int32) : Option ((Nat ⊕ Int32) × aH) :=
  (aIs h 0 a0).bind fun _ =>
  bndT (fX1_figure D h a0 a1) fun x2 h3 =>
  (aIs h3 0 a0).bind fun _ =>
  bnd2 (fX1_scene D h3 a0 x2) fun x5 h6 =>
  (aIs h6 8 x5).bind fun _ =>
  bnd2 (fX9_bound D h6 x5 x2 a2) fun x8 h9 =>
  if x8 = none then
  (some (.inr (-1 : Int32), h9))
  else
  ((gI h9 10 1 x8).bind fun x10 =>
  some (.inr x10, h9))
theorem vX1_reasonFor {h : aH} {a0 : Option Nat} {a1 : Int32} {a2 : Int32} {q : Nat ⊕ Int32} {g : aH} (X : aX p l R s m meth c D n0 s0 yX1_reasonFor cX1_reasonFor 24 3416 5 (some .int) h0) (hf : fX1_reasonFor D h a0 a1 a2 = some (q, g)) : V p l e R s m args below meth c D n0 s0 (aEnd D below args s h0 (wI q, g)) h 0 [(0, false, va_rf a0), (1, false, .int a1), (2, false, .int a2)] [] := by
  have C := X.1
  unfold fX1_reasonFor at hf
  refine v_aload_n (pc := 0) (j := 0) C dX1_reasonFor_0 rfl rfl ?_
  refine v_iload_n (pc := 1) (j := 1) C dX1_reasonFor_1 rfl rfl ?_
  obtain ⟨b1, eb1, hf⟩ := oB hf
  obtain ⟨rb1, _, kb1⟩ := aIs_eq eb1
  rcases bndT_eq hf with ⟨_, _, ex2, qx2⟩ | ⟨x2, h3, ex2, hf⟩
  · cases qx2; exact v_ofDx (pc := 2) C X.2.1 X.2.2.1 rfl X.2.2.2.2.1 (d_V (pc := 2) C (As := [.int a1]) (rest := []) rb1 kb1 nt_0 q1849 yi_X1_figure_FigureSurvey yk_X1_figure rfl (by decide) (by decide) (Nat.le_trans aw_0 (by decide)) rfl (mX1_figure C.st ex2) dX1_reasonFor_2)
  refine v_call (pc := 2) (d_V (pc := 2) C (As := [.int a1]) (rest := []) rb1 kb1 nt_0 q1849 yi_X1_figure_FigureSurvey yk_X1_figure rfl (by decide) (by decide) (Nat.le_trans aw_0 (by decide)) rfl (mX1_figure C.st ex2) dX1_reasonFor_2) ?_
  refine v_astore_n (pc := 5) (lv' := [(3, false, va_rf x2), (0, false, va_rf a0), (1, false, .int a1), (2, false, .int a2)]) C dX1_reasonFor_5 rfl (by decide) rfl ?_
  refine v_aload_n (pc := 6) (j := 1) C dX1_reasonFor_6 rfl rfl ?_
  refine v_aload_n (pc := 7) (j := 0) C dX1_reasonFor_7 rfl rfl ?_
  obtain ⟨b4, eb4, hf⟩ := oB hf
  obtain ⟨rb4, _, kb4⟩ := aIs_eq eb4
  obtain ⟨x5, h6, ex5, hf⟩ := bnd2_eq hf
  refine v_call (pc := 8) (d_V (pc := 8) C (As := [va_rf x2]) (rest := []) rb4 kb4 nt_0 q2130 yi_X1_scene_FigureSurvey yk_X1_scene rfl (by decide) (by decide) (Nat.le_trans aw_0 (by decide)) rfl (mX1_scene C.st ex5) dX1_reasonFor_8) ?_
  refine v_aload_n (pc := 11) (j := 0) C dX1_reasonFor_11 rfl rfl ?_
  refine v_iload_n (pc := 12) (j := 3) C dX1_reasonFor_12 rfl rfl ?_
  obtain ⟨b7, eb7, hf⟩ := oB hf
  obtain ⟨rb7, _, kb7⟩ := aIs_eq eb7
  obtain ⟨x8, h9, ex8, hf⟩ := bnd2_eq hf
  refine v_call (pc := 13) (d_V (pc := 13) C (As := [va_rf x2, .int a2]) (rest := []) rb7 kb7 nt_8 q2178 yi_X9_bound_FigureSurvey_Scene yk_X9_bound rfl (by decide) (by decide) (Nat.le_trans aw_0 (by decide)) rfl (mX9_bound C.st ex8) dX1_reasonFor_13) ?_
  refine v_astore (pc := 16) (lv' := [(4, false, va_rf x8), (3, false, va_rf x2), (0, false, va_rf a0), (1, false, .int a1), (2, false, .int a2)]) C dX1_reasonFor_16 (by decide) rfl ?_
  refine v_aload (pc := 18) (j := 0) C dX1_reasonFor_18 rfl ?_
  refine v_ifnonnull (pc := 20) (tgt := 27) C dX1_reasonFor_20 rfl (fun hc => ?_) (fun hc => ?_)
  · rw [if_neg hc] at hf
    refine v_aload (pc := 27) (j := 0) C dX1_reasonFor_27 rfl ?_
    obtain ⟨x10, ex10, hf⟩ := oB hf
    refine v_getF (pc := 29) C lk_X1_378 (gI_eq ex10) dX1_reasonFor_29 ?_
    cases hf
    exact v_ireturn (pc := 32) C X.2.1 X.2.2.1 X.2.2.2.1 rfl dX1_reasonFor_32
  · rw [if_pos hc] at hf
    refine v_iconst (pc := 23) (v := (-1 : Int32)) C dX1_reasonFor_23 rfl ?_
    refine v_goto (pc := 24) (tgt := 32) C dX1_reasonFor_24 rfl ?_
    cases hf
    exact v_ireturn (pc := 32) C X.2.1 X.2.2.1 X.2.2.2.1 rfl dX1_reasonFor_32
theorem mX1_reasonFor {l : Launch} {D : aD} {h : aH} {a0 : Option Nat} {a1 : Int32} {a2 : Int32} {q : Nat ⊕ Int32} {g : aH} (hst : l.stackTraces = false) (hf : fX1_reasonFor D h a0 a1 a2 = some (q, g)) : aM l D yX1_reasonFor cX1_reasonFor 5 (some .int) 24 3416 [va_rf a0, .int a1, .int a2] h (wI q, g) :=
  aM.ofX [(false, va_rf a0), (false, .int a1), (false, .int a2)] rfl (ap_r (ap_c rfl (ap_c rfl ap_0))) (by decide +kernel) hst (al_of (aw_r (aw_i (aw_i aw_0))) (by decide)) fun p e s m args below meth c X => V.sub (lv' := [(0, false, va_rf a0), (1, false, .int a1), (2, false, .int a2)]) [0, 1, 2] rfl (vX1_reasonFor X hf)
def fX1_count_L8_p22 (D : aD) (h : aH) (K4 : Int32 → (Option Nat) → Int32 → Int32 → Option (Int32)) (a0 : Int32) (a1 : Option Nat) (a2 : Int32) (a3 : Int32) : Option (Int32) :=
  K4 a0 a1 a2 (a3 + 1)
theorem vX1_count_L8_p22 {h : aH} {K4 : Int32 → (Option Nat) → Int32 → Int32 → Option (Int32)} {a0 : Int32} {a1 : Option Nat} {a2 : Int32} {a3 : Int32} {q : Int32} (X : aX p l R s m meth c D n0 s0 yX1_count cX1_count 5 107 4 (some .int) h0) (k4 : ∀ (a0 : Int32) (a1 : Option Nat) (a2 : Int32) (a3 : Int32) (q : Int32), K4 a0 a1 a2 a3 = some q → V p l e R s m args below meth c D n0 s0 (aEnd D below args s h0 (.inr (some (.int q)), h)) h 4 [(0, false, .int a0), (1, false, va_rf a1), (2, false, .int a2), (3, false, .int a3)] []) (hf : fX1_count_L8_p22 D h K4 a0 a1 a2 a3 = some q) : V p l e R s m args below meth c D n0 s0 (aEnd D below args s h0 (.inr (some (.int q)), h)) h 22 [(0, false, .int a0), (1, false, va_rf a1), (2, false, .int a2), (3, false, .int a3)] [] := by
  have C := X.1
  unfold fX1_count_L8_p22 at hf
  refine v_iinc (pc := 22) (j := 3) (v := (a3 + 1)) (lv' := [(3, false, .int (a3 + 1)), (0, false, .int a0), (1, false, va_rf a1), (2, false, .int a2)]) C dX1_count_22 rfl rfl (by decide) rfl ?_
  refine v_goto (pc := 25) (tgt := 4) C dX1_count_25 rfl ?_
  exact V.sub [1, 2, 3, 0] rfl (k4 _ _ _ _ _ hf)
def fX1_count_L8_p4 (D : aD) (h : aH) : Nat → Int32 → (Option Nat) → Int32 → Int32 → Option (Int32)
  | 0, _, _, _, _ => none
  | n + 1, a0, a1, a2, a3 =>
  if a0 ≤ a3 then
  (some a2)
  else
  (bnd2 ((aLam h 118 a1).bind lmAA) fun c2 c3 =>
  (aIs h 0 c2).bind fun _ =>
  (fX1_lambda_addEntry_2 D h c2 c3 a3).bind fun x4 =>
  (ckZ x4).bind fun _ =>
  fX1_count_L8_p22 D h (fX1_count_L8_p4 D h n) a0 a1 (if x4 = 0 then a2 else (a2 + 1)) a3)
theorem vX1_count_L8_p4 {h : aH} (X : aX p l R s m meth c D n0 s0 yX1_count cX1_count 5 107 4 (some .int) h0) : ∀ (n : Nat) (a0 : Int32) (a1 : Option Nat) (a2 : Int32) (a3 : Int32) (q : Int32), fX1_count_L8_p4 D h n a0 a1 a2 a3 = some q → V p l e R s m args below meth c D n0 s0 (aEnd D below args s h0 (.inr (some (.int q)), h)) h 4 [(0, false, .int a0), (1, false, va_rf a1), (2, false, .int a2), (3, false, .int a3)] [] := by
  have C := X.1
  intro n
  induction n with
  | zero =>
    intro _ _ _ _ _ hf
    rw [fX1_count_L8_p4] at hf
    cases hf
  | succ n ih =>
    intro a0 a1 a2 a3 q hf
    rw [fX1_count_L8_p4] at hf
    refine v_iload_n (pc := 4) (j := 3) C dX1_count_4 rfl rfl ?_
    refine v_iload_n (pc := 5) (j := 0) C dX1_count_5 rfl rfl ?_
    refine v_icmp_ge (pc := 6) (tgt := 28) C dX1_count_6 rfl (fun hc => ?_) (fun hc => ?_)
    · rw [if_pos hc] at hf
      refine v_iload_n (pc := 28) (j := 2) C dX1_count_28 rfl rfl ?_
      cases hf
      exact v_ireturn (pc := 29) C X.2.1 X.2.2.1 X.2.2.2.1 rfl dX1_count_29
    · rw [if_neg hc] at hf
      refine v_aload_n (pc := 9) (j := 1) C dX1_count_9 rfl rfl ?_
      refine v_iload_n (pc := 10) (j := 3) C dX1_count_10 rfl rfl ?_
      obtain ⟨c2, c3, eb1, hf⟩ := bnd2_eq hf
      obtain ⟨b1, rb1, kb1⟩ := lmAA_eq eb1
      obtain ⟨db1, fb1, hf⟩ := oB hf
      obtain ⟨rfl, _, gb1⟩ := aIs_eq fb1
      obtain ⟨x4, ex4, hf⟩ := oB hf
      obtain ⟨_, zx4, hf⟩ := oB hf
      refine v_call (pc := 11) (d_L (pc := 11) C (k := 8) (xs := [a3]) (As := [.int a3]) (rest := []) lkS_8 lok_8 (by decide +kernel) ⟨rfl, rfl, by decide +kernel⟩ q598 q600 ⟨q599, ⟨by decide +kernel, by decide +kernel⟩⟩ (show (parseMethodDescriptor "(I)Z").map (fun d => d.parameters.length) = some 1 by decide +kernel) rb1 kb1 rfl rfl (hWalkV lDec_8 (show 1 ≤ 3 by decide) (by decide) kb1 rfl gb1 nt_0 yi_X1_lambda_addEntry_2_FigureSurvey yk_X1_lambda_addEntry_2 rfl (mX1_lambda_addEntry_2 C.st ex4) (Or.inr ⟨rfl, ckZ_eq zx4⟩)) (by decide) (by decide) (Nat.le_trans aw_0 (by decide)) rfl dX1_count_11) ?_
      refine v_if_eq (pc := 16) (tgt := 22) C dX1_count_16 rfl (fun hc => ?_) (fun hc => ?_)
      · simp only [if_pos hc] at hf
        exact V.sub [0, 1, 2, 3] rfl (vX1_count_L8_p22 X ih hf)
      · simp only [if_neg hc] at hf
        refine v_iinc (pc := 19) (j := 2) (v := (a2 + 1)) (lv' := [(2, false, .int (a2 + 1)), (0, false, .int a0), (1, false, va_rf a1), (3, false, .int a3)]) C dX1_count_19 rfl rfl (by decide) rfl ?_
        exact V.sub [1, 2, 0, 3] rfl (vX1_count_L8_p22 X ih hf)
def fX1_count_L8 (D : aD) (h : aH) (a0 : Int32) (a1 : Option Nat) : Option (Int32) :=
  fX1_count_L8_p4 D h FU a0 a1 (0 : Int32) (0 : Int32)
theorem vX1_count_L8 {h : aH} {a0 : Int32} {a1 : Option Nat} {q : Int32} (X : aX p l R s m meth c D n0 s0 yX1_count cX1_count 5 107 4 (some .int) h0) (hf : fX1_count_L8 D h a0 a1 = some q) : V p l e R s m args below meth c D n0 s0 (aEnd D below args s h0 (.inr (some (.int q)), h)) h 0 [(0, false, .int a0), (1, false, va_rf a1)] [] := by
  have C := X.1
  unfold fX1_count_L8 at hf
  refine v_iconst (pc := 0) (v := (0 : Int32)) C dX1_count_0 rfl ?_
  refine v_istore_n (pc := 1) (lv' := [(2, false, .int (0 : Int32)), (0, false, .int a0), (1, false, va_rf a1)]) C dX1_count_1 rfl (by decide) rfl ?_
  refine v_iconst (pc := 2) (v := (0 : Int32)) C dX1_count_2 rfl ?_
  refine v_istore_n (pc := 3) (lv' := [(3, false, .int (0 : Int32)), (2, false, .int (0 : Int32)), (0, false, .int a0), (1, false, va_rf a1)]) C dX1_count_3 rfl (by decide) rfl ?_
  exact V.sub [2, 3, 1, 0] rfl (vX1_count_L8_p4 X _ _ _ _ _ _ hf)
theorem mX1_count_L8 {l : Launch} {D : aD} {h : aH} {a0 : Int32} {a1 : Option Nat} {q : Int32} (hst : l.stackTraces = false) (hf : fX1_count_L8 D h a0 a1 = some q) : aM l D yX1_count cX1_count 4 (some .int) 5 107 [.int a0, va_rf a1] h (.inr (some (.int q)), h) :=
  aM.ofX [(false, .int a0), (false, va_rf a1)] rfl (ap_c rfl (ap_r ap_0)) (by decide +kernel) hst (al_of (aw_i (aw_r aw_0)) (by decide)) fun p e s m args below meth c X => V.sub (lv' := [(0, false, .int a0), (1, false, va_rf a1)]) [0, 1] rfl (vX1_count_L8 X hf)
def fX1_addEntry_p54 (D : aD) (h : aH) (a0 : Option Nat) (a2 : Int32) (a3 : Option Nat) (t0 : Int32) : Option ((Nat ⊕ Int32) × aH) :=
  bndT (fX1_must D h t0) fun _ h3 =>
  (gR h3 0 10 a0).bind fun x4 =>
  (aMk D h3 (11, dfX12)).bind fun h5 =>
  (fX12_init D h5 (some h3.1) a3 a2).bind fun h8 =>
  (aIs h8 15 x4).bind fun _ =>
  bnd2 (fJ2_add D h8 x4 (some h3.1)) fun x10 h11 =>
  (gR h11 0 10 a0).bind fun x12 =>
  (aIs h11 15 x12).bind fun _ =>
  (fJ2_size D h11 x12).bind fun x14 =>
  some (.inr (x14 - (1 : Int32)), h11)
theorem vX1_addEntry_p54 {h : aH} {a0 : Option Nat} {a2 : Int32} {a3 : Option Nat} {t0 : Int32} {q : Nat ⊕ Int32} {g : aH} (X : aX p l R s m meth c D n0 s0 yX1_addEntry cX1_addEntry 8 3075 4 (some .int) h0) (hf : fX1_addEntry_p54 D h a0 a2 a3 t0 = some (q, g)) : V p l e R s m args below meth c D n0 s0 (aEnd D below args s h0 (wI q, g)) h 54 [(0, false, va_rf a0), (2, false, .int a2), (3, false, va_rf a3)] [.int t0] := by
  have C := X.1
  unfold fX1_addEntry_p54 at hf
  rcases bndT_eq hf with ⟨_, _, ex2, qx2⟩ | ⟨x2, h3, ex2, hf⟩
  · cases qx2; exact v_ofDx (pc := 54) C X.2.1 X.2.2.1 rfl X.2.2.2.2.1 (d_S (pc := 54) C (As := [.int t0]) (rest := []) q1595 q1596 yk_X1_must rfl (by decide) (by decide) (Nat.le_trans aw_0 (by decide)) rfl (mX1_must C.st ex2) dX1_addEntry_54)
  refine v_callU (pc := 54) (d_S (pc := 54) C (As := [.int t0]) (rest := []) q1595 q1596 yk_X1_must rfl (by decide) (by decide) (Nat.le_trans aw_0 (by decide)) rfl (mX1_must C.st ex2) dX1_addEntry_54) ?_
  refine v_aload_n (pc := 57) (j := 0) C dX1_addEntry_57 rfl rfl ?_
  obtain ⟨x4, ex4, hf⟩ := oB hf
  refine v_getF (pc := 58) C lk_X1_78 (gR_eq ex4) dX1_addEntry_58 ?_
  obtain ⟨h5, eh5, hf⟩ := oB hf
  refine v_new (pc := 61) (t := 11) (fs := dfX12) (T := TX12) (N := 2) C rfl in_X12 tyX12 tyX12_ok q2221 q2222 q125 dfX12_ok rfl eh5 dX1_addEntry_61 ?_
  refine v_dup (pc := 64) C dX1_addEntry_64 (va_rfc _) ?_
  refine v_aload_n (pc := 65) (j := 2) C dX1_addEntry_65 rfl rfl ?_
  refine v_iload_n (pc := 66) (j := 1) C dX1_addEntry_66 rfl rfl ?_
  obtain ⟨h8, ex7, hf⟩ := oB hf
  refine v_callU (pc := 67) (d_I (pc := 67) C (As := [va_rf a3, .int a2]) (rest := [va_rf (some h3.1), va_rf x4]) rfl rfl rfl q2223 q2224 yk_X12_init rfl (by decide) (by decide) (Nat.le_trans (aw_r (aw_r aw_0)) (by decide)) rfl (mX12_init C.st ex7) dX1_addEntry_67) ?_
  obtain ⟨b9, eb9, hf⟩ := oB hf
  obtain ⟨rb9, _, kb9⟩ := aIs_eq eb9
  obtain ⟨x10, h11, ex10, hf⟩ := bnd2_eq hf
  refine v_call (pc := 70) (d_V (pc := 70) C (As := [va_rf (some h3.1)]) (rest := []) rb9 kb9 nt_15 q1673 yi_J2_add_java_util_ArrayList yk_J2_add rfl (by decide) (by decide) (Nat.le_trans aw_0 (by decide)) rfl (mJ2_add C.st ex10) dX1_addEntry_70) ?_
  refine v_pop (pc := 73) C dX1_addEntry_73 rfl ?_
  refine v_aload_n (pc := 74) (j := 0) C dX1_addEntry_74 rfl rfl ?_
  obtain ⟨x12, ex12, hf⟩ := oB hf
  refine v_getF (pc := 75) C lk_X1_78 (gR_eq ex12) dX1_addEntry_75 ?_
  obtain ⟨b13, eb13, hf⟩ := oB hf
  obtain ⟨rb13, _, kb13⟩ := aIs_eq eb13
  obtain ⟨x14, ex14, hf⟩ := oB hf
  refine v_call (pc := 78) (d_V (pc := 78) C (As := []) (rest := []) rb13 kb13 nt_15 q375 yi_J2_size_java_util_ArrayList yk_J2_size rfl (by decide) (by decide) (Nat.le_trans aw_0 (by decide)) rfl (mJ2_size C.st ex14) dX1_addEntry_78) ?_
  refine v_iconst (pc := 81) (v := (1 : Int32)) C dX1_addEntry_81 rfl ?_
  refine v_isub (pc := 82) C dX1_addEntry_82 ?_
  cases hf
  exact v_ireturn (pc := 83) C X.2.1 X.2.2.1 X.2.2.2.1 rfl dX1_addEntry_83
def fX1_addEntry (D : aD) (h : aH) (a0 : Option Nat) (a1 : Int32) (a2 : Int32) : Option ((Nat ⊕ Int32) × aH) :=
  (aIs h 0 a0).bind fun _ =>
  bndT (fX1_panel D h a0 a1) fun x2 h3 =>
  bndT (fX1_in D h3 a2 (0 : Int32) (999999 : Int32)) fun x5 h6 =>
  (gR h6 0 10 a0).bind fun x7 =>
  (aIs h6 15 x7).bind fun _ =>
  (fJ2_size D h6 x7).bind fun x9 =>
  if (30 : Int32) ≤ x9 then
  (fX1_addEntry_p54 D h6 a0 a2 x2 (0 : Int32))
  else
  ((gR h6 0 10 a0).bind fun x11 =>
  (aIs h6 15 x11).bind fun _ =>
  (fJ2_size D h6 x11).bind fun x13 =>
  (aMk D h6 (118, [va_rf a0, va_rf x2])).bind fun h15 =>
  (fX1_count_L8 D h15 x13 (some h6.1)).bind fun x17 =>
  fX1_addEntry_p54 D h15 a0 a2 x2 (if (8 : Int32) ≤ x17 then (0 : Int32) else (1 : Int32)))
theorem vX1_addEntry {h : aH} {a0 : Option Nat} {a1 : Int32} {a2 : Int32} {q : Nat ⊕ Int32} {g : aH} (X : aX p l R s m meth c D n0 s0 yX1_addEntry cX1_addEntry 8 3075 4 (some .int) h0) (hf : fX1_addEntry D h a0 a1 a2 = some (q, g)) : V p l e R s m args below meth c D n0 s0 (aEnd D below args s h0 (wI q, g)) h 0 [(0, false, va_rf a0), (1, false, .int a1), (2, false, .int a2)] [] := by
  have C := X.1
  unfold fX1_addEntry at hf
  refine v_aload_n (pc := 0) (j := 0) C dX1_addEntry_0 rfl rfl ?_
  refine v_iload_n (pc := 1) (j := 1) C dX1_addEntry_1 rfl rfl ?_
  obtain ⟨b1, eb1, hf⟩ := oB hf
  obtain ⟨rb1, _, kb1⟩ := aIs_eq eb1
  rcases bndT_eq hf with ⟨_, _, ex2, qx2⟩ | ⟨x2, h3, ex2, hf⟩
  · cases qx2; exact v_ofDx (pc := 2) C X.2.1 X.2.2.1 rfl X.2.2.2.2.1 (d_V (pc := 2) C (As := [.int a1]) (rest := []) rb1 kb1 nt_0 q1705 yi_X1_panel_FigureSurvey yk_X1_panel rfl (by decide) (by decide) (Nat.le_trans aw_0 (by decide)) rfl (mX1_panel C.st ex2) dX1_addEntry_2)
  refine v_call (pc := 2) (d_V (pc := 2) C (As := [.int a1]) (rest := []) rb1 kb1 nt_0 q1705 yi_X1_panel_FigureSurvey yk_X1_panel rfl (by decide) (by decide) (Nat.le_trans aw_0 (by decide)) rfl (mX1_panel C.st ex2) dX1_addEntry_2) ?_
  refine v_astore_n (pc := 5) (lv' := [(3, false, va_rf x2), (0, false, va_rf a0), (1, false, .int a1), (2, false, .int a2)]) C dX1_addEntry_5 rfl (by decide) rfl ?_
  refine v_iload_n (pc := 6) (j := 3) C dX1_addEntry_6 rfl rfl ?_
  refine v_iconst (pc := 7) (v := (0 : Int32)) C dX1_addEntry_7 rfl ?_
  refine v_ldc_w (pc := 8) (v := (999999 : Int32)) C q2186 dX1_addEntry_8 ?_
  rcases bndT_eq hf with ⟨_, _, ex5, qx5⟩ | ⟨x5, h6, ex5, hf⟩
  · cases qx5; exact v_ofDx (pc := 11) C X.2.1 X.2.2.1 rfl X.2.2.2.2.1 (d_S (pc := 11) C (As := [.int a2, .int (0 : Int32), .int (999999 : Int32)]) (rest := []) q1578 q1579 yk_X1_in rfl (by decide) (by decide) (Nat.le_trans aw_0 (by decide)) rfl (mX1_in C.st ex5) dX1_addEntry_11)
  refine v_call (pc := 11) (d_S (pc := 11) C (As := [.int a2, .int (0 : Int32), .int (999999 : Int32)]) (rest := []) q1578 q1579 yk_X1_in rfl (by decide) (by decide) (Nat.le_trans aw_0 (by decide)) rfl (mX1_in C.st ex5) dX1_addEntry_11) ?_
  refine v_pop (pc := 14) C dX1_addEntry_14 rfl ?_
  refine v_aload_n (pc := 15) (j := 1) C dX1_addEntry_15 rfl rfl ?_
  obtain ⟨x7, ex7, hf⟩ := oB hf
  refine v_getF (pc := 16) C lk_X1_78 (gR_eq ex7) dX1_addEntry_16 ?_
  obtain ⟨b8, eb8, hf⟩ := oB hf
  obtain ⟨rb8, _, kb8⟩ := aIs_eq eb8
  obtain ⟨x9, ex9, hf⟩ := oB hf
  refine v_call (pc := 19) (d_V (pc := 19) C (As := []) (rest := []) rb8 kb8 nt_15 q375 yi_J2_size_java_util_ArrayList yk_J2_size rfl (by decide) (by decide) (Nat.le_trans aw_0 (by decide)) rfl (mJ2_size C.st ex9) dX1_addEntry_19) ?_
  refine v_bipush (pc := 22) (v := (30 : Int32)) C dX1_addEntry_22 rfl ?_
  refine v_icmp_ge (pc := 24) (tgt := 53) C dX1_addEntry_24 rfl (fun hc => ?_) (fun hc => ?_)
  · rw [if_pos hc] at hf
    refine v_iconst (pc := 53) (v := (0 : Int32)) C dX1_addEntry_53 rfl ?_
    exact V.sub [1, 3, 0] rfl (vX1_addEntry_p54 X hf)
  · rw [if_neg hc] at hf
    refine v_aload_n (pc := 27) (j := 1) C dX1_addEntry_27 rfl rfl ?_
    obtain ⟨x11, ex11, hf⟩ := oB hf
    refine v_getF (pc := 28) C lk_X1_78 (gR_eq ex11) dX1_addEntry_28 ?_
    obtain ⟨b12, eb12, hf⟩ := oB hf
    obtain ⟨rb12, _, kb12⟩ := aIs_eq eb12
    obtain ⟨x13, ex13, hf⟩ := oB hf
    refine v_call (pc := 31) (d_V (pc := 31) C (As := []) (rest := []) rb12 kb12 nt_15 q375 yi_J2_size_java_util_ArrayList yk_J2_size rfl (by decide) (by decide) (Nat.le_trans aw_0 (by decide)) rfl (mJ2_size C.st ex13) dX1_addEntry_31) ?_
    refine v_aload_n (pc := 34) (j := 1) C dX1_addEntry_34 rfl rfl ?_
    refine v_aload_n (pc := 35) (j := 0) C dX1_addEntry_35 rfl rfl ?_
    obtain ⟨h15, eh15, hf⟩ := oB hf
    refine v_lam (pc := 36) (k := 8) (vals := [va_rf a0, va_rf x2]) (rest := [.int x13]) C X.2.2.2.2.2.2 lkS_8 lok_8 rfl (lvl_c rfl ft_o (lvl_c rfl ft_o lvl_0)) rfl eh15 (Nat.le_trans (Nat.add_le_add_right (aw_r (aw_r (aw_i aw_0))) _) (by decide)) dX1_addEntry_36 ?_
    obtain ⟨x17, ex17, hf⟩ := oB hf
    refine v_call (pc := 41) (d_S (pc := 41) C (As := [.int x13, va_rf (some h6.1)]) (rest := []) q601 q595 yk_X1_count rfl (by decide) (by decide) (Nat.le_trans aw_0 (by decide)) rfl (mX1_count_L8 C.st ex17) dX1_addEntry_41) ?_
    refine v_bipush (pc := 44) (v := (8 : Int32)) C dX1_addEntry_44 rfl ?_
    refine v_icmp_ge (pc := 46) (tgt := 53) C dX1_addEntry_46 rfl (fun hc => ?_) (fun hc => ?_)
    · simp only [if_pos hc] at hf
      refine v_iconst (pc := 53) (v := (0 : Int32)) C dX1_addEntry_53 rfl ?_
      exact V.sub [1, 3, 0] rfl (vX1_addEntry_p54 X hf)
    · simp only [if_neg hc] at hf
      refine v_iconst (pc := 49) (v := (1 : Int32)) C dX1_addEntry_49 rfl ?_
      refine v_goto (pc := 50) (tgt := 54) C dX1_addEntry_50 rfl ?_
      exact V.sub [1, 3, 0] rfl (vX1_addEntry_p54 X hf)
theorem mX1_addEntry {l : Launch} {D : aD} {h : aH} {a0 : Option Nat} {a1 : Int32} {a2 : Int32} {q : Nat ⊕ Int32} {g : aH} (hst : l.stackTraces = false) (hf : fX1_addEntry D h a0 a1 a2 = some (q, g)) : aM l D yX1_addEntry cX1_addEntry 4 (some .int) 8 3075 [va_rf a0, .int a1, .int a2] h (wI q, g) :=
  aM.ofX [(false, va_rf a0), (false, .int a1), (false, .int a2)] rfl (ap_r (ap_c rfl (ap_c rfl ap_0))) (by decide +kernel) hst (al_of (aw_r (aw_i (aw_i aw_0))) (by decide)) fun p e s m args below meth c X => V.sub (lv' := [(0, false, va_rf a0), (1, false, .int a1), (2, false, .int a2)]) [0, 1, 2] rfl (vX1_addEntry X hf)
def fX1_figureFor_p84 (D : aD) (K33 : aH → (Option Nat) → (Option Nat) → (Option Nat) → Int32 → Option ((Nat ⊕ Int32) × aH)) (h : aH) (a0 : Option Nat) (a2 : Option Nat) (a3 : Option Nat) (a4 : Int32) : Option ((Nat ⊕ Int32) × aH) :=
  K33 h a0 a2 a3 (a4 + 1)
theorem vX1_figureFor_p84 {h : aH} {K33 : aH → (Option Nat) → (Option Nat) → (Option Nat) → Int32 → Option ((Nat ⊕ Int32) × aH)} {a0 : Option Nat} {a2 : Option Nat} {a3 : Option Nat} {a4 : Int32} {q : Nat ⊕ Int32} {g : aH} (X : aX p l R s m meth c D n0 s0 yX1_figureFor cX1_figureFor 12 3140 8 (some .int) h0) (k33 : ∀ (h : aH) (a0 : Option Nat) (a2 : Option Nat) (a3 : Option Nat) (a4 : Int32) (q : Nat ⊕ Int32) (g : aH), K33 h a0 a2 a3 a4 = some (q, g) → V p l e R s m args below meth c D n0 s0 (aEnd D below args s h0 (wI q, g)) h 33 [(0, false, va_rf a0), (2, false, va_rf a2), (3, false, va_rf a3), (4, false, .int a4)] []) (hf : fX1_figureFor_p84 D K33 h a0 a2 a3 a4 = some (q, g)) : V p l e R s m args below meth c D n0 s0 (aEnd D below args s h0 (wI q, g)) h 84 [(0, false, va_rf a0), (2, false, va_rf a2), (3, false, va_rf a3), (4, false, .int a4)] [] := by
  have C := X.1
  unfold fX1_figureFor_p84 at hf
  refine v_iinc (pc := 84) (j := 3) (v := (a4 + 1)) (lv' := [(4, false, .int (a4 + 1)), (0, false, va_rf a0), (2, false, va_rf a2), (3, false, va_rf a3)]) C dX1_figureFor_84 rfl rfl (by decide) rfl ?_
  refine v_goto (pc := 87) (tgt := 33) C dX1_figureFor_87 rfl ?_
  exact V.sub [1, 2, 3, 0] rfl (k33 _ _ _ _ _ _ _ hf)
def fX1_figureFor_p202 (D : aD) (K120 : aH → (Option Nat) → (Option Nat) → (Option Nat) → (Option Nat) → Int32 → Int32 → Option ((Nat ⊕ Int32) × aH)) (K123 : aH → (Option Nat) → (Option Nat) → (Option Nat) → (Option Nat) → Int32 → Int32 → Int32 → Option ((Nat ⊕ Int32) × aH)) (h : aH) (a0 : Option Nat) (a2 : Option Nat) (a3 : Option Nat) (a4 : Option Nat) (a5 : Int32) (a6 : Int32) (a7 : Int32) : Option ((Nat ⊕ Int32) × aH) :=
  K123 h a0 a2 a3 a4 a5 a6 (a7 + 1)
theorem vX1_figureFor_p202 {h : aH} {K120 : aH → (Option Nat) → (Option Nat) → (Option Nat) → (Option Nat) → Int32 → Int32 → Option ((Nat ⊕ Int32) × aH)} {K123 : aH → (Option Nat) → (Option Nat) → (Option Nat) → (Option Nat) → Int32 → Int32 → Int32 → Option ((Nat ⊕ Int32) × aH)} {a0 : Option Nat} {a2 : Option Nat} {a3 : Option Nat} {a4 : Option Nat} {a5 : Int32} {a6 : Int32} {a7 : Int32} {q : Nat ⊕ Int32} {g : aH} (X : aX p l R s m meth c D n0 s0 yX1_figureFor cX1_figureFor 12 3140 8 (some .int) h0) (k120 : ∀ (h : aH) (a0 : Option Nat) (a2 : Option Nat) (a3 : Option Nat) (a4 : Option Nat) (a5 : Int32) (a6 : Int32) (q : Nat ⊕ Int32) (g : aH), K120 h a0 a2 a3 a4 a5 a6 = some (q, g) → V p l e R s m args below meth c D n0 s0 (aEnd D below args s h0 (wI q, g)) h 120 [(0, false, va_rf a0), (2, false, va_rf a2), (3, false, va_rf a3), (4, false, va_rf a4), (5, false, .int a5), (6, false, .int a6)] []) (k123 : ∀ (h : aH) (a0 : Option Nat) (a2 : Option Nat) (a3 : Option Nat) (a4 : Option Nat) (a5 : Int32) (a6 : Int32) (a7 : Int32) (q : Nat ⊕ Int32) (g : aH), K123 h a0 a2 a3 a4 a5 a6 a7 = some (q, g) → V p l e R s m args below meth c D n0 s0 (aEnd D below args s h0 (wI q, g)) h 123 [(0, false, va_rf a0), (2, false, va_rf a2), (3, false, va_rf a3), (4, false, va_rf a4), (5, false, .int a5), (6, false, .int a6), (7, false, .int a7)] []) (hf : fX1_figureFor_p202 D K120 K123 h a0 a2 a3 a4 a5 a6 a7 = some (q, g)) : V p l e R s m args below meth c D n0 s0 (aEnd D below args s h0 (wI q, g)) h 202 [(0, false, va_rf a0), (2, false, va_rf a2), (3, false, va_rf a3), (4, false, va_rf a4), (5, false, .int a5), (6, false, .int a6), (7, false, .int a7)] [] := by
  have C := X.1
  unfold fX1_figureFor_p202 at hf
  refine v_iinc (pc := 202) (j := 6) (v := (a7 + 1)) (lv' := [(7, false, .int (a7 + 1)), (0, false, va_rf a0), (2, false, va_rf a2), (3, false, va_rf a3), (4, false, va_rf a4), (5, false, .int a5), (6, false, .int a6)]) C dX1_figureFor_202 rfl rfl (by decide) rfl ?_
  refine v_goto (pc := 205) (tgt := 123) C dX1_figureFor_205 rfl ?_
  exact V.sub [1, 2, 3, 4, 5, 6, 0] rfl (k123 _ _ _ _ _ _ _ _ _ _ hf)
def fX1_figureFor_p218 (D : aD) (h : aH) (a4 : Option Nat) (a7 : Int32) : Option ((Nat ⊕ Int32) × aH) :=
  (aIs h 15 a4).bind fun _ =>
  (fJ2_size D h a4).bind fun x2 =>
  if a7 = x2 then
  (some (.inr (-1 : Int32), h))
  else
  ((aIs h 15 a4).bind fun _ =>
  (fJ2_get D h a4 a7).bind fun x5 =>
  (aCast h [4] x5).bind fun _ =>
  (gI h 4 0 x5).bind fun x8 =>
  some (.inr x8, h))
theorem vX1_figureFor_p218 {h : aH} {a4 : Option Nat} {a7 : Int32} {q : Nat ⊕ Int32} {g : aH} (X : aX p l R s m meth c D n0 s0 yX1_figureFor cX1_figureFor 12 3140 8 (some .int) h0) (hf : fX1_figureFor_p218 D h a4 a7 = some (q, g)) : V p l e R s m args below meth c D n0 s0 (aEnd D below args s h0 (wI q, g)) h 218 [(4, false, va_rf a4), (7, false, .int a7)] [] := by
  have C := X.1
  unfold fX1_figureFor_p218 at hf
  refine v_iload (pc := 218) (j := 1) C dX1_figureFor_218 rfl ?_
  refine v_aload (pc := 220) (j := 0) C dX1_figureFor_220 rfl ?_
  obtain ⟨b1, eb1, hf⟩ := oB hf
  obtain ⟨rb1, _, kb1⟩ := aIs_eq eb1
  obtain ⟨x2, ex2, hf⟩ := oB hf
  refine v_call (pc := 222) (d_V (pc := 222) C (As := []) (rest := [.int a7]) rb1 kb1 nt_15 q375 yi_J2_size_java_util_ArrayList yk_J2_size rfl (by decide) (by decide) (Nat.le_trans (aw_i aw_0) (by decide)) rfl (mJ2_size C.st ex2) dX1_figureFor_222) ?_
  refine v_icmp_ne (pc := 225) (tgt := 232) C dX1_figureFor_225 rfl (fun hc => ?_) (fun hc => ?_)
  · rw [if_neg hc] at hf
    refine v_aload (pc := 232) (j := 0) C dX1_figureFor_232 rfl ?_
    refine v_iload (pc := 234) (j := 1) C dX1_figureFor_234 rfl ?_
    obtain ⟨b4, eb4, hf⟩ := oB hf
    obtain ⟨rb4, _, kb4⟩ := aIs_eq eb4
    obtain ⟨x5, ex5, hf⟩ := oB hf
    refine v_call (pc := 236) (d_V (pc := 236) C (As := [.int a7]) (rest := []) rb4 kb4 nt_15 q379 yi_J2_get_java_util_ArrayList yk_J2_get rfl (by decide) (by decide) (Nat.le_trans aw_0 (by decide)) rfl (mJ2_get C.st ex5) dX1_figureFor_236) ?_
    obtain ⟨_, e7, hf⟩ := oB hf
    refine v_cast (pc := 239) C q514 ct_FigureSurvey_Figure e7 dX1_figureFor_239 ?_
    obtain ⟨x8, ex8, hf⟩ := oB hf
    refine v_getF (pc := 242) C lk_X1_359 (gI_eq ex8) dX1_figureFor_242 ?_
    cases hf
    exact v_ireturn (pc := 245) C X.2.1 X.2.2.1 X.2.2.2.1 rfl dX1_figureFor_245
  · rw [if_pos (Decidable.of_not_not hc)] at hf
    refine v_iconst (pc := 228) (v := (-1 : Int32)) C dX1_figureFor_228 rfl ?_
    refine v_goto (pc := 229) (tgt := 245) C dX1_figureFor_229 rfl ?_
    cases hf
    exact v_ireturn (pc := 245) C X.2.1 X.2.2.1 X.2.2.2.1 rfl dX1_figureFor_245
def fX1_figureFor_p265 (D : aD) (K120 : aH → (Option Nat) → (Option Nat) → (Option Nat) → (Option Nat) → Int32 → Int32 → Option ((Nat ⊕ Int32) × aH)) (h : aH) (a0 : Option Nat) (a2 : Option Nat) (a3 : Option Nat) (a4 : Option Nat) (a5 : Int32) (a6 : Int32) : Option ((Nat ⊕ Int32) × aH) :=
  K120 h a0 a2 a3 a4 a5 (a6 + 1)
theorem vX1_figureFor_p265 {h : aH} {K120 : aH → (Option Nat) → (Option Nat) → (Option Nat) → (Option Nat) → Int32 → Int32 → Option ((Nat ⊕ Int32) × aH)} {a0 : Option Nat} {a2 : Option Nat} {a3 : Option Nat} {a4 : Option Nat} {a5 : Int32} {a6 : Int32} {q : Nat ⊕ Int32} {g : aH} (X : aX p l R s m meth c D n0 s0 yX1_figureFor cX1_figureFor 12 3140 8 (some .int) h0) (k120 : ∀ (h : aH) (a0 : Option Nat) (a2 : Option Nat) (a3 : Option Nat) (a4 : Option Nat) (a5 : Int32) (a6 : Int32) (q : Nat ⊕ Int32) (g : aH), K120 h a0 a2 a3 a4 a5 a6 = some (q, g) → V p l e R s m args below meth c D n0 s0 (aEnd D below args s h0 (wI q, g)) h 120 [(0, false, va_rf a0), (2, false, va_rf a2), (3, false, va_rf a3), (4, false, va_rf a4), (5, false, .int a5), (6, false, .int a6)] []) (hf : fX1_figureFor_p265 D K120 h a0 a2 a3 a4 a5 a6 = some (q, g)) : V p l e R s m args below meth c D n0 s0 (aEnd D below args s h0 (wI q, g)) h 265 [(0, false, va_rf a0), (2, false, va_rf a2), (3, false, va_rf a3), (4, false, va_rf a4), (5, false, .int a5), (6, false, .int a6)] [] := by
  have C := X.1
  unfold fX1_figureFor_p265 at hf
  refine v_iinc (pc := 265) (j := 5) (v := (a6 + 1)) (lv' := [(6, false, .int (a6 + 1)), (0, false, va_rf a0), (2, false, va_rf a2), (3, false, va_rf a3), (4, false, va_rf a4), (5, false, .int a5)]) C dX1_figureFor_265 rfl rfl (by decide) rfl ?_
  refine v_goto (pc := 268) (tgt := 120) C dX1_figureFor_268 rfl ?_
  exact V.sub [1, 2, 3, 4, 5, 0] rfl (k120 _ _ _ _ _ _ _ _ _ hf)
def fX1_figureFor_p208 (D : aD) (K120 : aH → (Option Nat) → (Option Nat) → (Option Nat) → (Option Nat) → Int32 → Int32 → Option ((Nat ⊕ Int32) × aH)) (h : aH) (a0 : Option Nat) (a2 : Option Nat) (a3 : Option Nat) (a4 : Option Nat) (a5 : Int32) (a6 : Int32) (a7 : Int32) : Option ((Nat ⊕ Int32) × aH) :=
  (aIs h 15 a3).bind fun _ =>
  (fJ2_get D h a3 a6).bind fun x2 =>
  if x2 = a2 then
  (fX1_figureFor_p218 D h a4 a7)
  else
  ((aIs h 15 a4).bind fun _ =>
  (fJ2_size D h a4).bind fun x5 =>
  if x5 ≤ a7 then
  (fX1_figureFor_p265 D K120 h a0 a2 a3 a4 a5 a6)
  else
  ((some ((a5 ||| ((1 : Int32) <<< (a7 &&& 31))))).bind fun x7 =>
  fX1_figureFor_p265 D K120 h a0 a2 a3 a4 x7 a6))
theorem vX1_figureFor_p208 {h : aH} {K120 : aH → (Option Nat) → (Option Nat) → (Option Nat) → (Option Nat) → Int32 → Int32 → Option ((Nat ⊕ Int32) × aH)} {a0 : Option Nat} {a2 : Option Nat} {a3 : Option Nat} {a4 : Option Nat} {a5 : Int32} {a6 : Int32} {a7 : Int32} {q : Nat ⊕ Int32} {g : aH} (X : aX p l R s m meth c D n0 s0 yX1_figureFor cX1_figureFor 12 3140 8 (some .int) h0) (k120 : ∀ (h : aH) (a0 : Option Nat) (a2 : Option Nat) (a3 : Option Nat) (a4 : Option Nat) (a5 : Int32) (a6 : Int32) (q : Nat ⊕ Int32) (g : aH), K120 h a0 a2 a3 a4 a5 a6 = some (q, g) → V p l e R s m args below meth c D n0 s0 (aEnd D below args s h0 (wI q, g)) h 120 [(0, false, va_rf a0), (2, false, va_rf a2), (3, false, va_rf a3), (4, false, va_rf a4), (5, false, .int a5), (6, false, .int a6)] []) (hf : fX1_figureFor_p208 D K120 h a0 a2 a3 a4 a5 a6 a7 = some (q, g)) : V p l e R s m args below meth c D n0 s0 (aEnd D below args s h0 (wI q, g)) h 208 [(0, false, va_rf a0), (2, false, va_rf a2), (3, false, va_rf a3), (4, false, va_rf a4), (5, false, .int a5), (6, false, .int a6), (7, false, .int a7)] [] := by
  have C := X.1
  unfold fX1_figureFor_p208 at hf
  refine v_aload_n (pc := 208) (j := 2) C dX1_figureFor_208 rfl rfl ?_
  refine v_iload (pc := 209) (j := 5) C dX1_figureFor_209 rfl ?_
  obtain ⟨b1, eb1, hf⟩ := oB hf
  obtain ⟨rb1, _, kb1⟩ := aIs_eq eb1
  obtain ⟨x2, ex2, hf⟩ := oB hf
  refine v_call (pc := 211) (d_V (pc := 211) C (As := [.int a6]) (rest := []) rb1 kb1 nt_15 q379 yi_J2_get_java_util_ArrayList yk_J2_get rfl (by decide) (by decide) (Nat.le_trans aw_0 (by decide)) rfl (mJ2_get C.st ex2) dX1_figureFor_211) ?_
  refine v_aload_n (pc := 214) (j := 1) C dX1_figureFor_214 rfl rfl ?_
  refine v_acmp_ne (pc := 215) (tgt := 246) C dX1_figureFor_215 rfl (fun hc => ?_) (fun hc => ?_)
  · rw [if_neg hc] at hf
    refine v_iload (pc := 246) (j := 6) C dX1_figureFor_246 rfl ?_
    refine v_aload (pc := 248) (j := 3) C dX1_figureFor_248 rfl ?_
    obtain ⟨b4, eb4, hf⟩ := oB hf
    obtain ⟨rb4, _, kb4⟩ := aIs_eq eb4
    obtain ⟨x5, ex5, hf⟩ := oB hf
    refine v_call (pc := 250) (d_V (pc := 250) C (As := []) (rest := [.int a7]) rb4 kb4 nt_15 q375 yi_J2_size_java_util_ArrayList yk_J2_size rfl (by decide) (by decide) (Nat.le_trans (aw_i aw_0) (by decide)) rfl (mJ2_size C.st ex5) dX1_figureFor_250) ?_
    refine v_icmp_ge (pc := 253) (tgt := 265) C dX1_figureFor_253 rfl (fun hc => ?_) (fun hc => ?_)
    · rw [if_pos hc] at hf
      exact V.sub [0, 1, 2, 3, 4, 5] rfl (vX1_figureFor_p265 X k120 hf)
    · rw [if_neg hc] at hf
      refine v_iload (pc := 256) (j := 4) C dX1_figureFor_256 rfl ?_
      refine v_iconst (pc := 258) (v := (1 : Int32)) C dX1_figureFor_258 rfl ?_
      refine v_iload (pc := 259) (j := 6) C dX1_figureFor_259 rfl ?_
      refine v_ishl (pc := 261) C dX1_figureFor_261 ?_
      refine v_ior (pc := 262) C dX1_figureFor_262 ?_
      obtain ⟨x7, ex7, hf⟩ := oB hf
      refine vst (Option.some.inj ex7) (fun z => .int z :: []) ?_
      refine v_istore (pc := 263) (lv' := [(5, false, .int x7), (0, false, va_rf a0), (2, false, va_rf a2), (3, false, va_rf a3), (4, false, va_rf a4), (6, false, .int a6), (7, false, .int a7)]) C dX1_figureFor_263 (by decide) rfl ?_
      exact V.sub [1, 2, 3, 4, 0, 5] rfl (vX1_figureFor_p265 X k120 hf)
  · rw [if_pos (Decidable.of_not_not hc)] at hf
    exact V.sub [3, 6] rfl (vX1_figureFor_p218 X hf)
def fX1_figureFor_p123 (D : aD) (K120 : aH → (Option Nat) → (Option Nat) → (Option Nat) → (Option Nat) → Int32 → Int32 → Option ((Nat ⊕ Int32) × aH)) : Nat → aH → (Option Nat) → (Option Nat) → (Option Nat) → (Option Nat) → Int32 → Int32 → Int32 → Option ((Nat ⊕ Int32) × aH)
  | 0, _, _, _, _, _, _, _, _ => none
  | n + 1, h, a0, a2, a3, a4, a5, a6, a7 =>
  (aIs h 15 a4).bind fun _ =>
  (fJ2_size D h a4).bind fun x2 =>
  if x2 ≤ a7 then
  (fX1_figureFor_p208 D K120 h a0 a2 a3 a4 a5 a6 a7)
  else
  ((fX1_has_2 D h a5 a7).bind fun x5 =>
  if x5 = 0 then
  ((aIs h 15 a3).bind fun _ =>
  (fJ2_get D h a3 a6).bind fun x8 =>
  (aCast h [11] x8).bind fun _ =>
  (gI h 11 1 x8).bind fun x11 =>
  (aIs h 15 a4).bind fun _ =>
  (fJ2_get D h a4 a7).bind fun x13 =>
  (aCast h [4] x13).bind fun _ =>
  (gI h 4 6 x13).bind fun x16 =>
  (fX1_distance D h x11 x16).bind fun x18 =>
  (gR h 0 16 a0).bind fun x20 =>
  (eR h x20 (a6 + (1 : Int32))).bind fun x21 =>
  (eI h x21 (a5 ||| ((1 : Int32) <<< (a7 &&& 31)))).bind fun x22 =>
  (gR h 0 16 a0).bind fun x23 =>
  (eR h x23 a6).bind fun x24 =>
  (eI h x24 a5).bind fun x25 =>
  if (x18 + x22) = x25 then
  (fX1_figureFor_p208 D K120 h a0 a2 a3 a4 a5 a6 a7)
  else
  (fX1_figureFor_p202 D K120 (fX1_figureFor_p123 D K120 n) h a0 a2 a3 a4 a5 a6 a7))
  else
  (fX1_figureFor_p202 D K120 (fX1_figureFor_p123 D K120 n) h a0 a2 a3 a4 a5 a6 a7))
theorem vX1_figureFor_p123 {K120 : aH → (Option Nat) → (Option Nat) → (Option Nat) → (Option Nat) → Int32 → Int32 → Option ((Nat ⊕ Int32) × aH)} (X : aX p l R s m meth c D n0 s0 yX1_figureFor cX1_figureFor 12 3140 8 (some .int) h0) (k120 : ∀ (h : aH) (a0 : Option Nat) (a2 : Option Nat) (a3 : Option Nat) (a4 : Option Nat) (a5 : Int32) (a6 : Int32) (q : Nat ⊕ Int32) (g : aH), K120 h a0 a2 a3 a4 a5 a6 = some (q, g) → V p l e R s m args below meth c D n0 s0 (aEnd D below args s h0 (wI q, g)) h 120 [(0, false, va_rf a0), (2, false, va_rf a2), (3, false, va_rf a3), (4, false, va_rf a4), (5, false, .int a5), (6, false, .int a6)] []) : ∀ (n : Nat) (h : aH) (a0 : Option Nat) (a2 : Option Nat) (a3 : Option Nat) (a4 : Option Nat) (a5 : Int32) (a6 : Int32) (a7 : Int32) (q : Nat ⊕ Int32) (g : aH), fX1_figureFor_p123 D K120 n h a0 a2 a3 a4 a5 a6 a7 = some (q, g) → V p l e R s m args below meth c D n0 s0 (aEnd D below args s h0 (wI q, g)) h 123 [(0, false, va_rf a0), (2, false, va_rf a2), (3, false, va_rf a3), (4, false, va_rf a4), (5, false, .int a5), (6, false, .int a6), (7, false, .int a7)] [] := by
  have C := X.1
  intro n
  induction n with
  | zero =>
    intro _ _ _ _ _ _ _ _ _ _ hf
    rw [fX1_figureFor_p123] at hf
    cases hf
  | succ n ih =>
    intro h a0 a2 a3 a4 a5 a6 a7 q g hf
    rw [fX1_figureFor_p123] at hf
    refine v_iload (pc := 123) (j := 6) C dX1_figureFor_123 rfl ?_
    refine v_aload (pc := 125) (j := 3) C dX1_figureFor_125 rfl ?_
    obtain ⟨b1, eb1, hf⟩ := oB hf
    obtain ⟨rb1, _, kb1⟩ := aIs_eq eb1
    obtain ⟨x2, ex2, hf⟩ := oB hf
    refine v_call (pc := 127) (d_V (pc := 127) C (As := []) (rest := [.int a7]) rb1 kb1 nt_15 q375 yi_J2_size_java_util_ArrayList yk_J2_size rfl (by decide) (by decide) (Nat.le_trans (aw_i aw_0) (by decide)) rfl (mJ2_size C.st ex2) dX1_figureFor_127) ?_
    refine v_icmp_ge (pc := 130) (tgt := 208) C dX1_figureFor_130 rfl (fun hc => ?_) (fun hc => ?_)
    · rw [if_pos hc] at hf
      exact V.sub [0, 1, 2, 3, 4, 5, 6] rfl (vX1_figureFor_p208 X k120 hf)
    · rw [if_neg hc] at hf
      refine v_iload (pc := 133) (j := 4) C dX1_figureFor_133 rfl ?_
      refine v_iload (pc := 135) (j := 6) C dX1_figureFor_135 rfl ?_
      obtain ⟨x5, ex5, hf⟩ := oB hf
      refine v_call (pc := 137) (d_S (pc := 137) C (As := [.int a5, .int a7]) (rest := []) q1251 q1244 yk_X1_has_2 rfl (by decide) (by decide) (Nat.le_trans aw_0 (by decide)) rfl (mX1_has_2 C.st ex5) dX1_figureFor_137) ?_
      refine v_if_ne (pc := 140) (tgt := 202) C dX1_figureFor_140 rfl (fun hc => ?_) (fun hc => ?_)
      · rw [if_neg hc] at hf
        exact V.sub [0, 1, 2, 3, 4, 5, 6] rfl (vX1_figureFor_p202 X k120 ih hf)
      · rw [if_pos (Decidable.of_not_not hc)] at hf
        refine v_aload_n (pc := 143) (j := 2) C dX1_figureFor_143 rfl rfl ?_
        refine v_iload (pc := 144) (j := 5) C dX1_figureFor_144 rfl ?_
        obtain ⟨b7, eb7, hf⟩ := oB hf
        obtain ⟨rb7, _, kb7⟩ := aIs_eq eb7
        obtain ⟨x8, ex8, hf⟩ := oB hf
        refine v_call (pc := 146) (d_V (pc := 146) C (As := [.int a6]) (rest := []) rb7 kb7 nt_15 q379 yi_J2_get_java_util_ArrayList yk_J2_get rfl (by decide) (by decide) (Nat.le_trans aw_0 (by decide)) rfl (mJ2_get C.st ex8) dX1_figureFor_146) ?_
        obtain ⟨_, e10, hf⟩ := oB hf
        refine v_cast (pc := 149) C q2221 ct_FigureSurvey_Entry e10 dX1_figureFor_149 ?_
        obtain ⟨x11, ex11, hf⟩ := oB hf
        refine v_getF (pc := 152) C lk_X1_404 (gI_eq ex11) dX1_figureFor_152 ?_
        refine v_aload (pc := 155) (j := 3) C dX1_figureFor_155 rfl ?_
        refine v_iload (pc := 157) (j := 6) C dX1_figureFor_157 rfl ?_
        obtain ⟨b12, eb12, hf⟩ := oB hf
        obtain ⟨rb12, _, kb12⟩ := aIs_eq eb12
        obtain ⟨x13, ex13, hf⟩ := oB hf
        refine v_call (pc := 159) (d_V (pc := 159) C (As := [.int a7]) (rest := [.int x11]) rb12 kb12 nt_15 q379 yi_J2_get_java_util_ArrayList yk_J2_get rfl (by decide) (by decide) (Nat.le_trans (aw_i aw_0) (by decide)) rfl (mJ2_get C.st ex13) dX1_figureFor_159) ?_
        obtain ⟨_, e15, hf⟩ := oB hf
        refine v_cast (pc := 162) C q514 ct_FigureSurvey_Figure e15 dX1_figureFor_162 ?_
        obtain ⟨x16, ex16, hf⟩ := oB hf
        refine v_getF (pc := 165) C lk_X1_392 (gI_eq ex16) dX1_figureFor_165 ?_
        obtain ⟨x18, ex18, hf⟩ := oB hf
        refine v_call (pc := 168) (d_S (pc := 168) C (As := [.int x11, .int x16]) (rest := []) q2193 q2194 yk_X1_distance rfl (by decide) (by decide) (Nat.le_trans aw_0 (by decide)) rfl (mX1_distance C.st ex18) dX1_figureFor_168) ?_
        refine v_aload_n (pc := 171) (j := 0) C dX1_figureFor_171 rfl rfl ?_
        obtain ⟨x20, ex20, hf⟩ := oB hf
        refine v_getF (pc := 172) C lk_X1_90 (gR_eq ex20) dX1_figureFor_172 ?_
        refine v_iload (pc := 175) (j := 5) C dX1_figureFor_175 rfl ?_
        refine v_iconst (pc := 177) (v := (1 : Int32)) C dX1_figureFor_177 rfl ?_
        refine v_iadd (pc := 178) C dX1_figureFor_178 ?_
        obtain ⟨x21, ex21, hf⟩ := oB hf
        refine v_aaload (pc := 179) C ex21 dX1_figureFor_179 ?_
        refine v_iload (pc := 180) (j := 4) C dX1_figureFor_180 rfl ?_
        refine v_iconst (pc := 182) (v := (1 : Int32)) C dX1_figureFor_182 rfl ?_
        refine v_iload (pc := 183) (j := 6) C dX1_figureFor_183 rfl ?_
        refine v_ishl (pc := 185) C dX1_figureFor_185 ?_
        refine v_ior (pc := 186) C dX1_figureFor_186 ?_
        obtain ⟨x22, ex22, hf⟩ := oB hf
        refine v_iaload (pc := 187) C ex22 dX1_figureFor_187 ?_
        refine v_iadd (pc := 188) C dX1_figureFor_188 ?_
        refine v_aload_n (pc := 189) (j := 0) C dX1_figureFor_189 rfl rfl ?_
        obtain ⟨x23, ex23, hf⟩ := oB hf
        refine v_getF (pc := 190) C lk_X1_90 (gR_eq ex23) dX1_figureFor_190 ?_
        refine v_iload (pc := 193) (j := 5) C dX1_figureFor_193 rfl ?_
        obtain ⟨x24, ex24, hf⟩ := oB hf
        refine v_aaload (pc := 195) C ex24 dX1_figureFor_195 ?_
        refine v_iload (pc := 196) (j := 4) C dX1_figureFor_196 rfl ?_
        obtain ⟨x25, ex25, hf⟩ := oB hf
        refine v_iaload (pc := 198) C ex25 dX1_figureFor_198 ?_
        refine v_icmp_eq (pc := 199) (tgt := 208) C dX1_figureFor_199 rfl (fun hc => ?_) (fun hc => ?_)
        · rw [if_pos hc] at hf
          exact V.sub [0, 1, 2, 3, 4, 5, 6] rfl (vX1_figureFor_p208 X k120 hf)
        · rw [if_neg hc] at hf
          exact V.sub [0, 1, 2, 3, 4, 5, 6] rfl (vX1_figureFor_p202 X k120 ih hf)
def fX1_figureFor_p120 (D : aD) : Nat → aH → (Option Nat) → (Option Nat) → (Option Nat) → (Option Nat) → Int32 → Int32 → Option ((Nat ⊕ Int32) × aH)
  | 0, _, _, _, _, _, _, _ => none
  | n + 1, h, a0, a2, a3, a4, a5, a6 =>
  fX1_figureFor_p123 D (fX1_figureFor_p120 D n) FU h a0 a2 a3 a4 a5 a6 (0 : Int32)
theorem vX1_figureFor_p120 (X : aX p l R s m meth c D n0 s0 yX1_figureFor cX1_figureFor 12 3140 8 (some .int) h0) : ∀ (n : Nat) (h : aH) (a0 : Option Nat) (a2 : Option Nat) (a3 : Option Nat) (a4 : Option Nat) (a5 : Int32) (a6 : Int32) (q : Nat ⊕ Int32) (g : aH), fX1_figureFor_p120 D n h a0 a2 a3 a4 a5 a6 = some (q, g) → V p l e R s m args below meth c D n0 s0 (aEnd D below args s h0 (wI q, g)) h 120 [(0, false, va_rf a0), (2, false, va_rf a2), (3, false, va_rf a3), (4, false, va_rf a4), (5, false, .int a5), (6, false, .int a6)] [] := by
  have C := X.1
  intro n
  induction n with
  | zero =>
    intro _ _ _ _ _ _ _ _ _ hf
    rw [fX1_figureFor_p120] at hf
    cases hf
  | succ n ih =>
    intro h a0 a2 a3 a4 a5 a6 q g hf
    rw [fX1_figureFor_p120] at hf
    refine v_iconst (pc := 120) (v := (0 : Int32)) C dX1_figureFor_120 rfl ?_
    refine v_istore (pc := 121) (lv' := [(7, false, .int (0 : Int32)), (0, false, va_rf a0), (2, false, va_rf a2), (3, false, va_rf a3), (4, false, va_rf a4), (5, false, .int a5), (6, false, .int a6)]) C dX1_figureFor_121 (by decide) rfl ?_
    exact V.sub [1, 2, 3, 4, 5, 6, 0] rfl (vX1_figureFor_p123 X ih _ _ _ _ _ _ _ _ _ _ _ hf)
def fX1_figureFor_p90 (D : aD) (h : aH) (a0 : Option Nat) (a2 : Option Nat) (a3 : Option Nat) : Option ((Nat ⊕ Int32) × aH) :=
  (aMk D h (8, dfX9)).bind fun h1 =>
  (gR h1 11 0 a2).bind fun x2 =>
  (fX9_init D h1 (some h.1) a0 x2).bind fun h5 =>
  (gR h5 8 1 (some h.1)).bind fun x6 =>
  (aIs h5 0 a0).bind fun _ =>
  (fX1_findMatches D h5 a0 a3 x6).bind fun h9 =>
  fX1_figureFor_p120 D FU h9 a0 a2 a3 x6 (0 : Int32) (0 : Int32)
theorem vX1_figureFor_p90 {h : aH} {a0 : Option Nat} {a2 : Option Nat} {a3 : Option Nat} {q : Nat ⊕ Int32} {g : aH} (X : aX p l R s m meth c D n0 s0 yX1_figureFor cX1_figureFor 12 3140 8 (some .int) h0) (hf : fX1_figureFor_p90 D h a0 a2 a3 = some (q, g)) : V p l e R s m args below meth c D n0 s0 (aEnd D below args s h0 (wI q, g)) h 90 [(0, false, va_rf a0), (2, false, va_rf a2), (3, false, va_rf a3)] [] := by
  have C := X.1
  unfold fX1_figureFor_p90 at hf
  obtain ⟨h1, eh1, hf⟩ := oB hf
  refine v_new (pc := 90) (t := 8) (fs := dfX9) (T := TX9) (N := 8) C rfl in_X9 tyX9 tyX9_ok q862 q863 q120 dfX9_ok rfl eh1 dX1_figureFor_90 ?_
  refine v_dup (pc := 93) C dX1_figureFor_93 (va_rfc _) ?_
  refine v_aload_n (pc := 94) (j := 0) C dX1_figureFor_94 rfl rfl ?_
  refine v_aload_n (pc := 95) (j := 1) C dX1_figureFor_95 rfl rfl ?_
  obtain ⟨x2, ex2, hf⟩ := oB hf
  refine v_getF (pc := 96) C lk_X1_405 (gR_eq ex2) dX1_figureFor_96 ?_
  obtain ⟨h5, ex4, hf⟩ := oB hf
  refine v_callU (pc := 99) (d_I (pc := 99) C (As := [va_rf a0, va_rf x2]) (rest := [va_rf (some h.1)]) rfl rfl rfl q864 q865 yk_X9_init rfl (by decide) (by decide) (Nat.le_trans (aw_r aw_0) (by decide)) rfl (mX9_init C.st ex4) dX1_figureFor_99) ?_
  obtain ⟨x6, ex6, hf⟩ := oB hf
  refine v_getF (pc := 102) C lk_X1_356 (gR_eq ex6) dX1_figureFor_102 ?_
  refine v_astore (pc := 105) (lv' := [(4, false, va_rf x6), (0, false, va_rf a0), (2, false, va_rf a2), (3, false, va_rf a3)]) C dX1_figureFor_105 (by decide) rfl ?_
  refine v_aload_n (pc := 107) (j := 1) C dX1_figureFor_107 rfl rfl ?_
  refine v_aload_n (pc := 108) (j := 3) C dX1_figureFor_108 rfl rfl ?_
  refine v_aload (pc := 109) (j := 0) C dX1_figureFor_109 rfl ?_
  obtain ⟨b7, eb7, hf⟩ := oB hf
  obtain ⟨rb7, _, kb7⟩ := aIs_eq eb7
  obtain ⟨h9, ex8, hf⟩ := oB hf
  refine v_callU (pc := 111) (d_V (pc := 111) C (As := [va_rf a3, va_rf x6]) (rest := []) rb7 kb7 nt_0 q2243 yi_X1_findMatches_FigureSurvey yk_X1_findMatches rfl (by decide) (by decide) (Nat.le_trans aw_0 (by decide)) rfl (mX1_findMatches C.st ex8) dX1_figureFor_111) ?_
  refine v_iconst (pc := 114) (v := (0 : Int32)) C dX1_figureFor_114 rfl ?_
  refine v_istore (pc := 115) (lv' := [(5, false, .int (0 : Int32)), (4, false, va_rf x6), (0, false, va_rf a0), (2, false, va_rf a2), (3, false, va_rf a3)]) C dX1_figureFor_115 (by decide) rfl ?_
  refine v_iconst (pc := 117) (v := (0 : Int32)) C dX1_figureFor_117 rfl ?_
  refine v_istore (pc := 118) (lv' := [(6, false, .int (0 : Int32)), (5, false, .int (0 : Int32)), (4, false, va_rf x6), (0, false, va_rf a0), (2, false, va_rf a2), (3, false, va_rf a3)]) C dX1_figureFor_118 (by decide) rfl ?_
  exact V.sub [3, 4, 5, 2, 1, 0] rfl (vX1_figureFor_p120 X _ _ _ _ _ _ _ _ _ _ hf)
def fX1_figureFor_p33 (D : aD) : Nat → aH → (Option Nat) → (Option Nat) → (Option Nat) → Int32 → Option ((Nat ⊕ Int32) × aH)
  | 0, _, _, _, _, _ => none
  | n + 1, h, a0, a2, a3, a4 =>
  (gR h 0 10 a0).bind fun x1 =>
  (aIs h 15 x1).bind fun _ =>
  (fJ2_size D h x1).bind fun x3 =>
  if x3 ≤ a4 then
  (fX1_figureFor_p90 D h a0 a2 a3)
  else
  ((gR h 0 10 a0).bind fun x5 =>
  (aIs h 15 x5).bind fun _ =>
  (fJ2_get D h x5 a4).bind fun x7 =>
  (aCast h [11] x7).bind fun _ =>
  (gR h 11 0 x7).bind fun x10 =>
  (gR h 11 0 a2).bind fun x11 =>
  if x10 = x11 then
  ((gR h 0 10 a0).bind fun x12 =>
  (aIs h 15 x12).bind fun _ =>
  (fJ2_get D h x12 a4).bind fun x14 =>
  (aCast h [11] x14).bind fun _ =>
  (aIs h 15 a3).bind fun _ =>
  bnd2 (fJ2_add D h a3 x14) fun x18 h19 =>
  fX1_figureFor_p84 D (fX1_figureFor_p33 D n) h19 a0 a2 a3 a4)
  else
  (fX1_figureFor_p84 D (fX1_figureFor_p33 D n) h a0 a2 a3 a4))
theorem vX1_figureFor_p33 (X : aX p l R s m meth c D n0 s0 yX1_figureFor cX1_figureFor 12 3140 8 (some .int) h0) : ∀ (n : Nat) (h : aH) (a0 : Option Nat) (a2 : Option Nat) (a3 : Option Nat) (a4 : Int32) (q : Nat ⊕ Int32) (g : aH), fX1_figureFor_p33 D n h a0 a2 a3 a4 = some (q, g) → V p l e R s m args below meth c D n0 s0 (aEnd D below args s h0 (wI q, g)) h 33 [(0, false, va_rf a0), (2, false, va_rf a2), (3, false, va_rf a3), (4, false, .int a4)] [] := by
  have C := X.1
  intro n
  induction n with
  | zero =>
    intro _ _ _ _ _ _ _ hf
    rw [fX1_figureFor_p33] at hf
    cases hf
  | succ n ih =>
    intro h a0 a2 a3 a4 q g hf
    rw [fX1_figureFor_p33] at hf
    refine v_iload (pc := 33) (j := 3) C dX1_figureFor_33 rfl ?_
    refine v_aload_n (pc := 35) (j := 0) C dX1_figureFor_35 rfl rfl ?_
    obtain ⟨x1, ex1, hf⟩ := oB hf
    refine v_getF (pc := 36) C lk_X1_78 (gR_eq ex1) dX1_figureFor_36 ?_
    obtain ⟨b2, eb2, hf⟩ := oB hf
    obtain ⟨rb2, _, kb2⟩ := aIs_eq eb2
    obtain ⟨x3, ex3, hf⟩ := oB hf
    refine v_call (pc := 39) (d_V (pc := 39) C (As := []) (rest := [.int a4]) rb2 kb2 nt_15 q375 yi_J2_size_java_util_ArrayList yk_J2_size rfl (by decide) (by decide) (Nat.le_trans (aw_i aw_0) (by decide)) rfl (mJ2_size C.st ex3) dX1_figureFor_39) ?_
    refine v_icmp_ge (pc := 42) (tgt := 90) C dX1_figureFor_42 rfl (fun hc => ?_) (fun hc => ?_)
    · rw [if_pos hc] at hf
      exact V.sub [0, 1, 2] rfl (vX1_figureFor_p90 X hf)
    · rw [if_neg hc] at hf
      refine v_aload_n (pc := 45) (j := 0) C dX1_figureFor_45 rfl rfl ?_
      obtain ⟨x5, ex5, hf⟩ := oB hf
      refine v_getF (pc := 46) C lk_X1_78 (gR_eq ex5) dX1_figureFor_46 ?_
      refine v_iload (pc := 49) (j := 3) C dX1_figureFor_49 rfl ?_
      obtain ⟨b6, eb6, hf⟩ := oB hf
      obtain ⟨rb6, _, kb6⟩ := aIs_eq eb6
      obtain ⟨x7, ex7, hf⟩ := oB hf
      refine v_call (pc := 51) (d_V (pc := 51) C (As := [.int a4]) (rest := []) rb6 kb6 nt_15 q379 yi_J2_get_java_util_ArrayList yk_J2_get rfl (by decide) (by decide) (Nat.le_trans aw_0 (by decide)) rfl (mJ2_get C.st ex7) dX1_figureFor_51) ?_
      obtain ⟨_, e9, hf⟩ := oB hf
      refine v_cast (pc := 54) C q2221 ct_FigureSurvey_Entry e9 dX1_figureFor_54 ?_
      obtain ⟨x10, ex10, hf⟩ := oB hf
      refine v_getF (pc := 57) C lk_X1_405 (gR_eq ex10) dX1_figureFor_57 ?_
      refine v_aload_n (pc := 60) (j := 1) C dX1_figureFor_60 rfl rfl ?_
      obtain ⟨x11, ex11, hf⟩ := oB hf
      refine v_getF (pc := 61) C lk_X1_405 (gR_eq ex11) dX1_figureFor_61 ?_
      refine v_acmp_ne (pc := 64) (tgt := 84) C dX1_figureFor_64 rfl (fun hc => ?_) (fun hc => ?_)
      · rw [if_neg hc] at hf
        exact V.sub [0, 1, 2, 3] rfl (vX1_figureFor_p84 X ih hf)
      · rw [if_pos (Decidable.of_not_not hc)] at hf
        refine v_aload_n (pc := 67) (j := 2) C dX1_figureFor_67 rfl rfl ?_
        refine v_aload_n (pc := 68) (j := 0) C dX1_figureFor_68 rfl rfl ?_
        obtain ⟨x12, ex12, hf⟩ := oB hf
        refine v_getF (pc := 69) C lk_X1_78 (gR_eq ex12) dX1_figureFor_69 ?_
        refine v_iload (pc := 72) (j := 3) C dX1_figureFor_72 rfl ?_
        obtain ⟨b13, eb13, hf⟩ := oB hf
        obtain ⟨rb13, _, kb13⟩ := aIs_eq eb13
        obtain ⟨x14, ex14, hf⟩ := oB hf
        refine v_call (pc := 74) (d_V (pc := 74) C (As := [.int a4]) (rest := [va_rf a3]) rb13 kb13 nt_15 q379 yi_J2_get_java_util_ArrayList yk_J2_get rfl (by decide) (by decide) (Nat.le_trans (aw_r aw_0) (by decide)) rfl (mJ2_get C.st ex14) dX1_figureFor_74) ?_
        obtain ⟨_, e16, hf⟩ := oB hf
        refine v_cast (pc := 77) C q2221 ct_FigureSurvey_Entry e16 dX1_figureFor_77 ?_
        obtain ⟨b17, eb17, hf⟩ := oB hf
        obtain ⟨rb17, _, kb17⟩ := aIs_eq eb17
        obtain ⟨x18, h19, ex18, hf⟩ := bnd2_eq hf
        refine v_call (pc := 80) (d_V (pc := 80) C (As := [va_rf x14]) (rest := []) rb17 kb17 nt_15 q1673 yi_J2_add_java_util_ArrayList yk_J2_add rfl (by decide) (by decide) (Nat.le_trans aw_0 (by decide)) rfl (mJ2_add C.st ex18) dX1_figureFor_80) ?_
        refine v_pop (pc := 83) C dX1_figureFor_83 rfl ?_
        exact V.sub [0, 1, 2, 3] rfl (vX1_figureFor_p84 X ih hf)
def fX1_figureFor (D : aD) (h : aH) (a0 : Option Nat) (a1 : Int32) : Option ((Nat ⊕ Int32) × aH) :=
  (gR h 0 10 a0).bind fun x1 =>
  (gR h 0 10 a0).bind fun x2 =>
  (aIs h 15 x2).bind fun _ =>
  (fJ2_size D h x2).bind fun x4 =>
  bndT (fX1_there D h a1 x4) fun x7 h8 =>
  (aIs h8 15 x1).bind fun _ =>
  (fJ2_get D h8 x1 x7).bind fun x10 =>
  (aCast h8 [11] x10).bind fun _ =>
  (aMk D h8 (15, dfJ2)).bind fun h13 =>
  (fJ2_init D h13 (some h8.1)).bind fun h16 =>
  fX1_figureFor_p33 D FU h16 a0 x10 (some h8.1) (0 : Int32)
theorem vX1_figureFor {h : aH} {a0 : Option Nat} {a1 : Int32} {q : Nat ⊕ Int32} {g : aH} (X : aX p l R s m meth c D n0 s0 yX1_figureFor cX1_figureFor 12 3140 8 (some .int) h0) (hf : fX1_figureFor D h a0 a1 = some (q, g)) : V p l e R s m args below meth c D n0 s0 (aEnd D below args s h0 (wI q, g)) h 0 [(0, false, va_rf a0), (1, false, .int a1)] [] := by
  have C := X.1
  unfold fX1_figureFor at hf
  refine v_aload_n (pc := 0) (j := 0) C dX1_figureFor_0 rfl rfl ?_
  obtain ⟨x1, ex1, hf⟩ := oB hf
  refine v_getF (pc := 1) C lk_X1_78 (gR_eq ex1) dX1_figureFor_1 ?_
  refine v_iload_n (pc := 4) (j := 1) C dX1_figureFor_4 rfl rfl ?_
  refine v_aload_n (pc := 5) (j := 0) C dX1_figureFor_5 rfl rfl ?_
  obtain ⟨x2, ex2, hf⟩ := oB hf
  refine v_getF (pc := 6) C lk_X1_78 (gR_eq ex2) dX1_figureFor_6 ?_
  obtain ⟨b3, eb3, hf⟩ := oB hf
  obtain ⟨rb3, _, kb3⟩ := aIs_eq eb3
  obtain ⟨x4, ex4, hf⟩ := oB hf
  refine v_call (pc := 9) (d_V (pc := 9) C (As := []) (rest := [.int a1, va_rf x1]) rb3 kb3 nt_15 q375 yi_J2_size_java_util_ArrayList yk_J2_size rfl (by decide) (by decide) (Nat.le_trans (aw_i (aw_r aw_0)) (by decide)) rfl (mJ2_size C.st ex4) dX1_figureFor_9) ?_
  rcases bndT_eq hf with ⟨_, _, ex7, qx7⟩ | ⟨x7, h8, ex7, hf⟩
  · cases qx7; exact v_ofDx (pc := 12) C X.2.1 X.2.2.1 rfl X.2.2.2.2.1 (d_S (pc := 12) C (As := [.int a1, .int x4]) (rest := [va_rf x1]) q1709 q1710 yk_X1_there rfl (by decide) (by decide) (Nat.le_trans (aw_r aw_0) (by decide)) rfl (mX1_there C.st ex7) dX1_figureFor_12)
  refine v_call (pc := 12) (d_S (pc := 12) C (As := [.int a1, .int x4]) (rest := [va_rf x1]) q1709 q1710 yk_X1_there rfl (by decide) (by decide) (Nat.le_trans (aw_r aw_0) (by decide)) rfl (mX1_there C.st ex7) dX1_figureFor_12) ?_
  obtain ⟨b9, eb9, hf⟩ := oB hf
  obtain ⟨rb9, _, kb9⟩ := aIs_eq eb9
  obtain ⟨x10, ex10, hf⟩ := oB hf
  refine v_call (pc := 15) (d_V (pc := 15) C (As := [.int x7]) (rest := []) rb9 kb9 nt_15 q379 yi_J2_get_java_util_ArrayList yk_J2_get rfl (by decide) (by decide) (Nat.le_trans aw_0 (by decide)) rfl (mJ2_get C.st ex10) dX1_figureFor_15) ?_
  obtain ⟨_, e12, hf⟩ := oB hf
  refine v_cast (pc := 18) C q2221 ct_FigureSurvey_Entry e12 dX1_figureFor_18 ?_
  refine v_astore_n (pc := 21) (lv' := [(2, false, va_rf x10), (0, false, va_rf a0), (1, false, .int a1)]) C dX1_figureFor_21 rfl (by decide) rfl ?_
  obtain ⟨h13, eh13, hf⟩ := oB hf
  refine v_new (pc := 22) (t := 15) (fs := dfJ2) (T := TJ2) (N := 3) C rfl in_J2 tyJ2 tyJ2_ok q140 q141 q77 dfJ2_ok rfl eh13 dX1_figureFor_22 ?_
  refine v_dup (pc := 25) C dX1_figureFor_25 (va_rfc _) ?_
  obtain ⟨h16, ex15, hf⟩ := oB hf
  refine v_callU (pc := 26) (d_I (pc := 26) C (As := []) (rest := [va_rf (some h8.1)]) rfl rfl rfl q142 q143 yk_J2_init rfl (by decide) (by decide) (Nat.le_trans (aw_r aw_0) (by decide)) rfl (mJ2_init C.st ex15) dX1_figureFor_26) ?_
  refine v_astore_n (pc := 29) (lv' := [(3, false, va_rf (some h8.1)), (2, false, va_rf x10), (0, false, va_rf a0), (1, false, .int a1)]) C dX1_figureFor_29 rfl (by decide) rfl ?_
  refine v_iconst (pc := 30) (v := (0 : Int32)) C dX1_figureFor_30 rfl ?_
  refine v_istore (pc := 31) (lv' := [(4, false, .int (0 : Int32)), (3, false, va_rf (some h8.1)), (2, false, va_rf x10), (0, false, va_rf a0), (1, false, .int a1)]) C dX1_figureFor_31 (by decide) rfl ?_
  exact V.sub [3, 2, 1, 0] rfl (vX1_figureFor_p33 X _ _ _ _ _ _ _ _ hf)
theorem mX1_figureFor {l : Launch} {D : aD} {h : aH} {a0 : Option Nat} {a1 : Int32} {q : Nat ⊕ Int32} {g : aH} (hst : l.stackTraces = false) (hf : fX1_figureFor D h a0 a1 = some (q, g)) : aM l D yX1_figureFor cX1_figureFor 8 (some .int) 12 3140 [va_rf a0, .int a1] h (wI q, g) :=
  aM.ofX [(false, va_rf a0), (false, .int a1)] rfl (ap_r (ap_c rfl ap_0)) (by decide +kernel) hst (al_of (aw_r (aw_i aw_0)) (by decide)) fun p e s m args below meth c X => V.sub (lv' := [(0, false, va_rf a0), (1, false, .int a1)]) [0, 1] rfl (vX1_figureFor X hf)
def fX1_repaint_p105 (D : aD) (h : aH) (a3 : Option Nat) (a4 : Int64) : Option ((Nat ⊕ Int32) × aH) :=
  (gR h 4 1 a3).bind fun x1 =>
  (gL h 2 4 x1).bind fun x2 =>
  (pF D h 2 4 x1 (.long (x2 &&& (a4 ^^^ (-1 : Int64))))).bind fun h3 =>
  (fJ21_bitCount D h3 a4).bind fun x5 =>
  some (.inr x5, h3)
theorem vX1_repaint_p105 {h : aH} {a3 : Option Nat} {a4 : Int64} {q : Nat ⊕ Int32} {g : aH} (X : aX p l R s m meth c D n0 s0 yX1_repaint cX1_repaint 11 3116 7 (some .int) h0) (hf : fX1_repaint_p105 D h a3 a4 = some (q, g)) : V p l e R s m args below meth c D n0 s0 (aEnd D below args s h0 (wI q, g)) h 105 [(3, false, va_rf a3), (4, true, .long a4)] [] := by
  have C := X.1
  unfold fX1_repaint_p105 at hf
  refine v_aload_n (pc := 105) (j := 0) C dX1_repaint_105 rfl rfl ?_
  obtain ⟨x1, ex1, hf⟩ := oB hf
  refine v_getF (pc := 106) C lk_X1_31 (gR_eq ex1) dX1_repaint_106 ?_
  refine v_dup (pc := 109) C dX1_repaint_109 (va_rfc _) ?_
  obtain ⟨x2, ex2, hf⟩ := oB hf
  refine v_getF (pc := 110) C lk_X1_235 (gL_eq ex2) dX1_repaint_110 ?_
  refine v_lload (pc := 113) (j := 1) C dX1_repaint_113 rfl ?_
  refine v_ldc2 (pc := 115) (v := (-1 : Int64)) C q1901 dX1_repaint_115 ?_
  refine v_lxor (pc := 118) C dX1_repaint_118 ?_
  refine v_land (pc := 119) C dX1_repaint_119 ?_
  obtain ⟨h3, eh3, hf⟩ := oB hf
  refine v_putF (pc := 120) C lk_X1_235 tyX3 tyX3_ok nmX3 (tyX3_ok 4 (by decide)) rfl rfl eh3 dX1_repaint_120 ?_
  refine v_lload (pc := 123) (j := 1) C dX1_repaint_123 rfl ?_
  obtain ⟨x5, ex5, hf⟩ := oB hf
  refine v_call (pc := 125) (d_S (pc := 125) C (As := [.long a4]) (rest := []) q1886 q558 yk_J21_bitCount rfl (by decide) (by decide) (Nat.le_trans aw_0 (by decide)) rfl (mJ21_bitCount C.st ex5) dX1_repaint_125) ?_
  cases hf
  exact v_ireturn (pc := 128) C X.2.1 X.2.2.1 X.2.2.2.1 rfl dX1_repaint_128
def fX1_repaint_p59 (D : aD) : Nat → aH → (Option Nat) → Int64 → Int32 → Option ((Nat ⊕ Int32) × aH)
  | 0, _, _, _, _ => none
  | n + 1, h, a3, a4, a6 =>
  (gR h 4 2 a3).bind fun x1 =>
  (aIs h 15 x1).bind fun _ =>
  (fJ2_size D h x1).bind fun x3 =>
  if x3 ≤ a6 then
  (fX1_repaint_p105 D h a3 a4)
  else
  ((gR h 4 2 a3).bind fun x5 =>
  (aIs h 15 x5).bind fun _ =>
  (fJ2_get D h x5 a6).bind fun x7 =>
  (aCast h [3] x7).bind fun _ =>
  (gL h 3 1 x7).bind fun x10 =>
  (gR h 4 1 a3).bind fun x11 =>
  (gL h 2 4 x11).bind fun x12 =>
  (some ((a4 ||| (x10 &&& x12)))).bind fun x13 =>
  fX1_repaint_p59 D n h a3 x13 (a6 + 1))
theorem vX1_repaint_p59 (X : aX p l R s m meth c D n0 s0 yX1_repaint cX1_repaint 11 3116 7 (some .int) h0) : ∀ (n : Nat) (h : aH) (a3 : Option Nat) (a4 : Int64) (a6 : Int32) (q : Nat ⊕ Int32) (g : aH), fX1_repaint_p59 D n h a3 a4 a6 = some (q, g) → V p l e R s m args below meth c D n0 s0 (aEnd D below args s h0 (wI q, g)) h 59 [(3, false, va_rf a3), (4, true, .long a4), (6, false, .int a6)] [] := by
  have C := X.1
  intro n
  induction n with
  | zero =>
    intro _ _ _ _ _ _ hf
    rw [fX1_repaint_p59] at hf
    cases hf
  | succ n ih =>
    intro h a3 a4 a6 q g hf
    rw [fX1_repaint_p59] at hf
    refine v_iload (pc := 59) (j := 2) C dX1_repaint_59 rfl ?_
    refine v_aload_n (pc := 61) (j := 0) C dX1_repaint_61 rfl rfl ?_
    obtain ⟨x1, ex1, hf⟩ := oB hf
    refine v_getF (pc := 62) C lk_X1_219 (gR_eq ex1) dX1_repaint_62 ?_
    obtain ⟨b2, eb2, hf⟩ := oB hf
    obtain ⟨rb2, _, kb2⟩ := aIs_eq eb2
    obtain ⟨x3, ex3, hf⟩ := oB hf
    refine v_call (pc := 65) (d_V (pc := 65) C (As := []) (rest := [.int a6]) rb2 kb2 nt_15 q375 yi_J2_size_java_util_ArrayList yk_J2_size rfl (by decide) (by decide) (Nat.le_trans (aw_i aw_0) (by decide)) rfl (mJ2_size C.st ex3) dX1_repaint_65) ?_
    refine v_icmp_ge (pc := 68) (tgt := 105) C dX1_repaint_68 rfl (fun hc => ?_) (fun hc => ?_)
    · rw [if_pos hc] at hf
      exact V.sub [0, 1] rfl (vX1_repaint_p105 X hf)
    · rw [if_neg hc] at hf
      refine v_lload (pc := 71) (j := 1) C dX1_repaint_71 rfl ?_
      refine v_aload_n (pc := 73) (j := 0) C dX1_repaint_73 rfl rfl ?_
      obtain ⟨x5, ex5, hf⟩ := oB hf
      refine v_getF (pc := 74) C lk_X1_219 (gR_eq ex5) dX1_repaint_74 ?_
      refine v_iload (pc := 77) (j := 2) C dX1_repaint_77 rfl ?_
      obtain ⟨b6, eb6, hf⟩ := oB hf
      obtain ⟨rb6, _, kb6⟩ := aIs_eq eb6
      obtain ⟨x7, ex7, hf⟩ := oB hf
      refine v_call (pc := 79) (d_V (pc := 79) C (As := [.int a6]) (rest := [.long a4]) rb6 kb6 nt_15 q379 yi_J2_get_java_util_ArrayList yk_J2_get rfl (by decide) (by decide) (Nat.le_trans (aw_l aw_0) (by decide)) rfl (mJ2_get C.st ex7) dX1_repaint_79) ?_
      obtain ⟨_, e9, hf⟩ := oB hf
      refine v_cast (pc := 82) C q1776 ct_FigureSurvey_Stroke e9 dX1_repaint_82 ?_
      obtain ⟨x10, ex10, hf⟩ := oB hf
      refine v_getF (pc := 85) C lk_X1_435 (gL_eq ex10) dX1_repaint_85 ?_
      refine v_aload_n (pc := 88) (j := 0) C dX1_repaint_88 rfl rfl ?_
      obtain ⟨x11, ex11, hf⟩ := oB hf
      refine v_getF (pc := 89) C lk_X1_31 (gR_eq ex11) dX1_repaint_89 ?_
      obtain ⟨x12, ex12, hf⟩ := oB hf
      refine v_getF (pc := 92) C lk_X1_235 (gL_eq ex12) dX1_repaint_92 ?_
      refine v_land (pc := 95) C dX1_repaint_95 ?_
      refine v_lor (pc := 96) C dX1_repaint_96 ?_
      obtain ⟨x13, ex13, hf⟩ := oB hf
      refine vst (Option.some.inj ex13) (fun z => .long z :: []) ?_
      refine v_lstore (pc := 97) (lv' := [(4, true, .long x13), (3, false, va_rf a3), (6, false, .int a6)]) C dX1_repaint_97 (by decide) rfl ?_
      refine v_iinc (pc := 99) (j := 2) (v := (a6 + 1)) (lv' := [(6, false, .int (a6 + 1)), (4, true, .long x13), (3, false, va_rf a3)]) C dX1_repaint_99 rfl rfl (by decide) rfl ?_
      refine v_goto (pc := 102) (tgt := 59) C dX1_repaint_102 rfl ?_
      exact V.sub [2, 1, 0] rfl (ih _ _ _ _ _ _ hf)
def fX1_repaint_p50 (D : aD) (h : aH) (a3 : Option Nat) (t0 : Int32) : Option ((Nat ⊕ Int32) × aH) :=
  bndT (fX1_must D h t0) fun _ h3 =>
  fX1_repaint_p59 D FU h3 a3 (0 : Int64) (0 : Int32)
theorem vX1_repaint_p50 {h : aH} {a3 : Option Nat} {t0 : Int32} {q : Nat ⊕ Int32} {g : aH} (X : aX p l R s m meth c D n0 s0 yX1_repaint cX1_repaint 11 3116 7 (some .int) h0) (hf : fX1_repaint_p50 D h a3 t0 = some (q, g)) : V p l e R s m args below meth c D n0 s0 (aEnd D below args s h0 (wI q, g)) h 50 [(3, false, va_rf a3)] [.int t0] := by
  have C := X.1
  unfold fX1_repaint_p50 at hf
  rcases bndT_eq hf with ⟨_, _, ex2, qx2⟩ | ⟨x2, h3, ex2, hf⟩
  · cases qx2; exact v_ofDx (pc := 50) C X.2.1 X.2.2.1 rfl X.2.2.2.2.1 (d_S (pc := 50) C (As := [.int t0]) (rest := []) q1595 q1596 yk_X1_must rfl (by decide) (by decide) (Nat.le_trans aw_0 (by decide)) rfl (mX1_must C.st ex2) dX1_repaint_50)
  refine v_callU (pc := 50) (d_S (pc := 50) C (As := [.int t0]) (rest := []) q1595 q1596 yk_X1_must rfl (by decide) (by decide) (Nat.le_trans aw_0 (by decide)) rfl (mX1_must C.st ex2) dX1_repaint_50) ?_
  refine v_lconst (pc := 53) (v := (0 : Int64)) C dX1_repaint_53 rfl ?_
  refine v_lstore (pc := 54) (lv' := [(4, true, .long (0 : Int64)), (3, false, va_rf a3)]) C dX1_repaint_54 (by decide) rfl ?_
  refine v_iconst (pc := 56) (v := (0 : Int32)) C dX1_repaint_56 rfl ?_
  refine v_istore (pc := 57) (lv' := [(6, false, .int (0 : Int32)), (4, true, .long (0 : Int64)), (3, false, va_rf a3)]) C dX1_repaint_57 (by decide) rfl ?_
  exact V.sub [2, 1, 0] rfl (vX1_repaint_p59 X _ _ _ _ _ _ _ hf)
def fX1_repaint (D : aD) (h : aH) (a0 : Option Nat) (a1 : Int32) (a2 : Int32) : Option ((Nat ⊕ Int32) × aH) :=
  (aIs h 0 a0).bind fun _ =>
  bndT (fX1_figure D h a0 a1) fun x2 h3 =>
  bndT (fX1_in D h3 a2 (0 : Int32) (3 : Int32)) fun x5 h6 =>
  (gR h6 4 1 x2).bind fun x7 =>
  (gI h6 2 5 x7).bind fun x8 =>
  (fX1_has_2 D h6 x8 a2).bind fun x10 =>
  if x10 = 0 then
  (fX1_repaint_p50 D h6 x2 (0 : Int32))
  else
  ((gR h6 4 1 x2).bind fun x12 =>
  (aIs h6 0 a0).bind fun _ =>
  (fX1_isDrowned D h6 a0 x12).bind fun x14 =>
  if x14 = 0 then
  ((aIs h6 4 x2).bind fun _ =>
  bnd2 (fX5_isGenuine D h6 x2) fun x17 h18 =>
  fX1_repaint_p50 D h18 x2 (if x17 = 0 then (0 : Int32) else (1 : Int32)))
  else
  (fX1_repaint_p50 D h6 x2 (0 : Int32)))
theorem vX1_repaint {h : aH} {a0 : Option Nat} {a1 : Int32} {a2 : Int32} {q : Nat ⊕ Int32} {g : aH} (X : aX p l R s m meth c D n0 s0 yX1_repaint cX1_repaint 11 3116 7 (some .int) h0) (hf : fX1_repaint D h a0 a1 a2 = some (q, g)) : V p l e R s m args below meth c D n0 s0 (aEnd D below args s h0 (wI q, g)) h 0 [(0, false, va_rf a0), (1, false, .int a1), (2, false, .int a2)] [] := by
  have C := X.1
  unfold fX1_repaint at hf
  refine v_aload_n (pc := 0) (j := 0) C dX1_repaint_0 rfl rfl ?_
  refine v_iload_n (pc := 1) (j := 1) C dX1_repaint_1 rfl rfl ?_
  obtain ⟨b1, eb1, hf⟩ := oB hf
  obtain ⟨rb1, _, kb1⟩ := aIs_eq eb1
  rcases bndT_eq hf with ⟨_, _, ex2, qx2⟩ | ⟨x2, h3, ex2, hf⟩
  · cases qx2; exact v_ofDx (pc := 2) C X.2.1 X.2.2.1 rfl X.2.2.2.2.1 (d_V (pc := 2) C (As := [.int a1]) (rest := []) rb1 kb1 nt_0 q1849 yi_X1_figure_FigureSurvey yk_X1_figure rfl (by decide) (by decide) (Nat.le_trans aw_0 (by decide)) rfl (mX1_figure C.st ex2) dX1_repaint_2)
  refine v_call (pc := 2) (d_V (pc := 2) C (As := [.int a1]) (rest := []) rb1 kb1 nt_0 q1849 yi_X1_figure_FigureSurvey yk_X1_figure rfl (by decide) (by decide) (Nat.le_trans aw_0 (by decide)) rfl (mX1_figure C.st ex2) dX1_repaint_2) ?_
  refine v_astore_n (pc := 5) (lv' := [(3, false, va_rf x2), (0, false, va_rf a0), (1, false, .int a1), (2, false, .int a2)]) C dX1_repaint_5 rfl (by decide) rfl ?_
  refine v_iload_n (pc := 6) (j := 3) C dX1_repaint_6 rfl rfl ?_
  refine v_iconst (pc := 7) (v := (0 : Int32)) C dX1_repaint_7 rfl ?_
  refine v_iconst (pc := 8) (v := (3 : Int32)) C dX1_repaint_8 rfl ?_
  rcases bndT_eq hf with ⟨_, _, ex5, qx5⟩ | ⟨x5, h6, ex5, hf⟩
  · cases qx5; exact v_ofDx (pc := 9) C X.2.1 X.2.2.1 rfl X.2.2.2.2.1 (d_S (pc := 9) C (As := [.int a2, .int (0 : Int32), .int (3 : Int32)]) (rest := []) q1578 q1579 yk_X1_in rfl (by decide) (by decide) (Nat.le_trans aw_0 (by decide)) rfl (mX1_in C.st ex5) dX1_repaint_9)
  refine v_call (pc := 9) (d_S (pc := 9) C (As := [.int a2, .int (0 : Int32), .int (3 : Int32)]) (rest := []) q1578 q1579 yk_X1_in rfl (by decide) (by decide) (Nat.le_trans aw_0 (by decide)) rfl (mX1_in C.st ex5) dX1_repaint_9) ?_
  refine v_pop (pc := 12) C dX1_repaint_12 rfl ?_
  refine v_aload_n (pc := 13) (j := 0) C dX1_repaint_13 rfl rfl ?_
  obtain ⟨x7, ex7, hf⟩ := oB hf
  refine v_getF (pc := 14) C lk_X1_31 (gR_eq ex7) dX1_repaint_14 ?_
  obtain ⟨x8, ex8, hf⟩ := oB hf
  refine v_getF (pc := 17) C lk_X1_429 (gI_eq ex8) dX1_repaint_17 ?_
  refine v_iload_n (pc := 20) (j := 3) C dX1_repaint_20 rfl rfl ?_
  obtain ⟨x10, ex10, hf⟩ := oB hf
  refine v_call (pc := 21) (d_S (pc := 21) C (As := [.int x8, .int a2]) (rest := []) q1251 q1244 yk_X1_has_2 rfl (by decide) (by decide) (Nat.le_trans aw_0 (by decide)) rfl (mX1_has_2 C.st ex10) dX1_repaint_21) ?_
  refine v_if_eq (pc := 24) (tgt := 49) C dX1_repaint_24 rfl (fun hc => ?_) (fun hc => ?_)
  · rw [if_pos hc] at hf
    refine v_iconst (pc := 49) (v := (0 : Int32)) C dX1_repaint_49 rfl ?_
    exact V.sub [0] rfl (vX1_repaint_p50 X hf)
  · rw [if_neg hc] at hf
    refine v_aload_n (pc := 27) (j := 1) C dX1_repaint_27 rfl rfl ?_
    refine v_aload_n (pc := 28) (j := 0) C dX1_repaint_28 rfl rfl ?_
    obtain ⟨x12, ex12, hf⟩ := oB hf
    refine v_getF (pc := 29) C lk_X1_31 (gR_eq ex12) dX1_repaint_29 ?_
    obtain ⟨b13, eb13, hf⟩ := oB hf
    obtain ⟨rb13, _, kb13⟩ := aIs_eq eb13
    obtain ⟨x14, ex14, hf⟩ := oB hf
    refine v_call (pc := 32) (d_V (pc := 32) C (As := [va_rf x12]) (rest := []) rb13 kb13 nt_0 q398 yi_X1_isDrowned_FigureSurvey yk_X1_isDrowned rfl (by decide) (by decide) (Nat.le_trans aw_0 (by decide)) rfl (mX1_isDrowned C.st ex14) dX1_repaint_32) ?_
    refine v_if_ne (pc := 35) (tgt := 49) C dX1_repaint_35 rfl (fun hc => ?_) (fun hc => ?_)
    · rw [if_neg hc] at hf
      refine v_iconst (pc := 49) (v := (0 : Int32)) C dX1_repaint_49 rfl ?_
      exact V.sub [0] rfl (vX1_repaint_p50 X hf)
    · rw [if_pos (Decidable.of_not_not hc)] at hf
      refine v_aload_n (pc := 38) (j := 0) C dX1_repaint_38 rfl rfl ?_
      obtain ⟨b16, eb16, hf⟩ := oB hf
      obtain ⟨rb16, _, kb16⟩ := aIs_eq eb16
      obtain ⟨x17, h18, ex17, hf⟩ := bnd2_eq hf
      refine v_call (pc := 39) (d_V (pc := 39) C (As := []) (rest := []) rb16 kb16 nt_4 q515 yi_X5_isGenuine_FigureSurvey_Figure yk_X5_isGenuine rfl (by decide) (by decide) (Nat.le_trans aw_0 (by decide)) rfl (mX5_isGenuine C.st ex17) dX1_repaint_39) ?_
      refine v_if_eq (pc := 42) (tgt := 49) C dX1_repaint_42 rfl (fun hc => ?_) (fun hc => ?_)
      · simp only [if_pos hc] at hf
        refine v_iconst (pc := 49) (v := (0 : Int32)) C dX1_repaint_49 rfl ?_
        exact V.sub [0] rfl (vX1_repaint_p50 X hf)
      · simp only [if_neg hc] at hf
        refine v_iconst (pc := 45) (v := (1 : Int32)) C dX1_repaint_45 rfl ?_
        refine v_goto (pc := 46) (tgt := 50) C dX1_repaint_46 rfl ?_
        exact V.sub [0] rfl (vX1_repaint_p50 X hf)
theorem mX1_repaint {l : Launch} {D : aD} {h : aH} {a0 : Option Nat} {a1 : Int32} {a2 : Int32} {q : Nat ⊕ Int32} {g : aH} (hst : l.stackTraces = false) (hf : fX1_repaint D h a0 a1 a2 = some (q, g)) : aM l D yX1_repaint cX1_repaint 7 (some .int) 11 3116 [va_rf a0, .int a1, .int a2] h (wI q, g) :=
  aM.ofX [(false, va_rf a0), (false, .int a1), (false, .int a2)] rfl (ap_r (ap_c rfl (ap_c rfl ap_0))) (by decide +kernel) hst (al_of (aw_r (aw_i (aw_i aw_0))) (by decide)) fun p e s m args below meth c X => V.sub (lv' := [(0, false, va_rf a0), (1, false, .int a1), (2, false, .int a2)]) [0, 1, 2] rfl (vX1_repaint X hf)
def fX1_chosen_p92 (D : aD) (K18 : aH → (Option Nat) → Int32 → Int32 → (Option Nat) → Int32 → Int32 → Option (Int32 × aH)) (h : aH) (a0 : Option Nat) (a1 : Int32) (a2 : Int32) (a3 : Option Nat) (a4 : Int32) (a5 : Int32) : Option (Int32 × aH) :=
  K18 h a0 a1 a2 a3 a4 (a5 + 1)
theorem vX1_chosen_p92 {h : aH} {K18 : aH → (Option Nat) → Int32 → Int32 → (Option Nat) → Int32 → Int32 → Option (Int32 × aH)} {a0 : Option Nat} {a1 : Int32} {a2 : Int32} {a3 : Option Nat} {a4 : Int32} {a5 : Int32} {q : Int32} {g : aH} (X : aX p l R s m meth c D n0 s0 yX1_chosen cX1_chosen 15 3203 12 (some .int) h0) (k18 : ∀ (h : aH) (a0 : Option Nat) (a1 : Int32) (a2 : Int32) (a3 : Option Nat) (a4 : Int32) (a5 : Int32) (q : Int32) (g : aH), K18 h a0 a1 a2 a3 a4 a5 = some (q, g) → V p l e R s m args below meth c D n0 s0 (aEnd D below args s h0 (.inr (some (.int q)), g)) h 18 [(0, false, va_rf a0), (1, false, .int a1), (2, false, .int a2), (3, false, va_rf a3), (4, false, .int a4), (5, false, .int a5)] []) (hf : fX1_chosen_p92 D K18 h a0 a1 a2 a3 a4 a5 = some (q, g)) : V p l e R s m args below meth c D n0 s0 (aEnd D below args s h0 (.inr (some (.int q)), g)) h 92 [(0, false, va_rf a0), (1, false, .int a1), (2, false, .int a2), (3, false, va_rf a3), (4, false, .int a4), (5, false, .int a5)] [] := by
  have C := X.1
  unfold fX1_chosen_p92 at hf
  refine v_iinc (pc := 92) (j := 5) (v := (a5 + 1)) (lv' := [(5, false, .int (a5 + 1)), (0, false, va_rf a0), (1, false, .int a1), (2, false, .int a2), (3, false, va_rf a3), (4, false, .int a4)]) C dX1_chosen_92 rfl rfl (by decide) rfl ?_
  refine v_goto (pc := 95) (tgt := 18) C dX1_chosen_95 rfl ?_
  exact V.sub [1, 2, 3, 4, 5, 0] rfl (k18 _ _ _ _ _ _ _ _ _ hf)
def fX1_chosen_p188 (D : aD) (K110 : aH → (Option Nat) → Int32 → Int32 → (Option Nat) → Int32 → Int32 → Int32 → Int32 → Int32 → Option (Int32 × aH)) (K140 : aH → (Option Nat) → Int32 → Int32 → (Option Nat) → Int32 → Int32 → Int32 → Int32 → Int32 → Int32 → Int32 → Int32 → Option (Int32 × aH)) (h : aH) (a0 : Option Nat) (a1 : Int32) (a2 : Int32) (a3 : Option Nat) (a4 : Int32) (a5 : Int32) (a6 : Int32) (a7 : Int32) (a8 : Int32) (a9 : Int32) (a10 : Int32) (a11 : Int32) : Option (Int32 × aH) :=
  K140 h a0 a1 a2 a3 a4 a5 a6 a7 a8 a9 a10 (a11 + 1)
theorem vX1_chosen_p188 {h : aH} {K110 : aH → (Option Nat) → Int32 → Int32 → (Option Nat) → Int32 → Int32 → Int32 → Int32 → Int32 → Option (Int32 × aH)} {K140 : aH → (Option Nat) → Int32 → Int32 → (Option Nat) → Int32 → Int32 → Int32 → Int32 → Int32 → Int32 → Int32 → Int32 → Option (Int32 × aH)} {a0 : Option Nat} {a1 : Int32} {a2 : Int32} {a3 : Option Nat} {a4 : Int32} {a5 : Int32} {a6 : Int32} {a7 : Int32} {a8 : Int32} {a9 : Int32} {a10 : Int32} {a11 : Int32} {q : Int32} {g : aH} (X : aX p l R s m meth c D n0 s0 yX1_chosen cX1_chosen 15 3203 12 (some .int) h0) (k110 : ∀ (h : aH) (a0 : Option Nat) (a1 : Int32) (a2 : Int32) (a3 : Option Nat) (a4 : Int32) (a5 : Int32) (a6 : Int32) (a7 : Int32) (a8 : Int32) (q : Int32) (g : aH), K110 h a0 a1 a2 a3 a4 a5 a6 a7 a8 = some (q, g) → V p l e R s m args below meth c D n0 s0 (aEnd D below args s h0 (.inr (some (.int q)), g)) h 110 [(0, false, va_rf a0), (1, false, .int a1), (2, false, .int a2), (3, false, va_rf a3), (4, false, .int a4), (5, false, .int a5), (6, false, .int a6), (7, false, .int a7), (8, false, .int a8)] []) (k140 : ∀ (h : aH) (a0 : Option Nat) (a1 : Int32) (a2 : Int32) (a3 : Option Nat) (a4 : Int32) (a5 : Int32) (a6 : Int32) (a7 : Int32) (a8 : Int32) (a9 : Int32) (a10 : Int32) (a11 : Int32) (q : Int32) (g : aH), K140 h a0 a1 a2 a3 a4 a5 a6 a7 a8 a9 a10 a11 = some (q, g) → V p l e R s m args below meth c D n0 s0 (aEnd D below args s h0 (.inr (some (.int q)), g)) h 140 [(0, false, va_rf a0), (1, false, .int a1), (2, false, .int a2), (3, false, va_rf a3), (4, false, .int a4), (5, false, .int a5), (6, false, .int a6), (7, false, .int a7), (8, false, .int a8), (9, false, .int a9), (10, false, .int a10), (11, false, .int a11)] []) (hf : fX1_chosen_p188 D K110 K140 h a0 a1 a2 a3 a4 a5 a6 a7 a8 a9 a10 a11 = some (q, g)) : V p l e R s m args below meth c D n0 s0 (aEnd D below args s h0 (.inr (some (.int q)), g)) h 188 [(0, false, va_rf a0), (1, false, .int a1), (2, false, .int a2), (3, false, va_rf a3), (4, false, .int a4), (5, false, .int a5), (6, false, .int a6), (7, false, .int a7), (8, false, .int a8), (9, false, .int a9), (10, false, .int a10), (11, false, .int a11)] [] := by
  have C := X.1
  unfold fX1_chosen_p188 at hf
  refine v_iinc (pc := 188) (j := 11) (v := (a11 + 1)) (lv' := [(11, false, .int (a11 + 1)), (0, false, va_rf a0), (1, false, .int a1), (2, false, .int a2), (3, false, va_rf a3), (4, false, .int a4), (5, false, .int a5), (6, false, .int a6), (7, false, .int a7), (8, false, .int a8), (9, false, .int a9), (10, false, .int a10)]) C dX1_chosen_188 rfl rfl (by decide) rfl ?_
  refine v_goto (pc := 191) (tgt := 140) C dX1_chosen_191 rfl ?_
  exact V.sub [1, 2, 3, 4, 5, 6, 7, 8, 9, 10, 11, 0] rfl (k140 _ _ _ _ _ _ _ _ _ _ _ _ _ _ _ hf)
def fX1_chosen_p236 (D : aD) (K110 : aH → (Option Nat) → Int32 → Int32 → (Option Nat) → Int32 → Int32 → Int32 → Int32 → Int32 → Option (Int32 × aH)) (h : aH) (a0 : Option Nat) (a1 : Int32) (a2 : Int32) (a3 : Option Nat) (a4 : Int32) (a5 : Int32) (a6 : Int32) (a7 : Int32) (a8 : Int32) : Option (Int32 × aH) :=
  K110 h a0 a1 a2 a3 a4 a5 a6 a7 (a8 + 1)
theorem vX1_chosen_p236 {h : aH} {K110 : aH → (Option Nat) → Int32 → Int32 → (Option Nat) → Int32 → Int32 → Int32 → Int32 → Int32 → Option (Int32 × aH)} {a0 : Option Nat} {a1 : Int32} {a2 : Int32} {a3 : Option Nat} {a4 : Int32} {a5 : Int32} {a6 : Int32} {a7 : Int32} {a8 : Int32} {q : Int32} {g : aH} (X : aX p l R s m meth c D n0 s0 yX1_chosen cX1_chosen 15 3203 12 (some .int) h0) (k110 : ∀ (h : aH) (a0 : Option Nat) (a1 : Int32) (a2 : Int32) (a3 : Option Nat) (a4 : Int32) (a5 : Int32) (a6 : Int32) (a7 : Int32) (a8 : Int32) (q : Int32) (g : aH), K110 h a0 a1 a2 a3 a4 a5 a6 a7 a8 = some (q, g) → V p l e R s m args below meth c D n0 s0 (aEnd D below args s h0 (.inr (some (.int q)), g)) h 110 [(0, false, va_rf a0), (1, false, .int a1), (2, false, .int a2), (3, false, va_rf a3), (4, false, .int a4), (5, false, .int a5), (6, false, .int a6), (7, false, .int a7), (8, false, .int a8)] []) (hf : fX1_chosen_p236 D K110 h a0 a1 a2 a3 a4 a5 a6 a7 a8 = some (q, g)) : V p l e R s m args below meth c D n0 s0 (aEnd D below args s h0 (.inr (some (.int q)), g)) h 236 [(0, false, va_rf a0), (1, false, .int a1), (2, false, .int a2), (3, false, va_rf a3), (4, false, .int a4), (5, false, .int a5), (6, false, .int a6), (7, false, .int a7), (8, false, .int a8)] [] := by
  have C := X.1
  unfold fX1_chosen_p236 at hf
  refine v_iinc (pc := 236) (j := 8) (v := (a8 + 1)) (lv' := [(8, false, .int (a8 + 1)), (0, false, va_rf a0), (1, false, .int a1), (2, false, .int a2), (3, false, va_rf a3), (4, false, .int a4), (5, false, .int a5), (6, false, .int a6), (7, false, .int a7)]) C dX1_chosen_236 rfl rfl (by decide) rfl ?_
  refine v_goto (pc := 239) (tgt := 110) C dX1_chosen_239 rfl ?_
  exact V.sub [1, 2, 3, 4, 5, 6, 7, 8, 0] rfl (k110 _ _ _ _ _ _ _ _ _ _ _ _ hf)
def fX1_chosen_p224 (D : aD) (K110 : aH → (Option Nat) → Int32 → Int32 → (Option Nat) → Int32 → Int32 → Int32 → Int32 → Int32 → Option (Int32 × aH)) (h : aH) (a0 : Option Nat) (a1 : Int32) (a2 : Int32) (a3 : Option Nat) (a4 : Int32) (a8 : Int32) (a9 : Int32) (a10 : Int32) : Option (Int32 × aH) :=
  fX1_chosen_p236 D K110 h a0 a1 a2 a3 a4 a8 a10 a9 a8
theorem vX1_chosen_p224 {h : aH} {K110 : aH → (Option Nat) → Int32 → Int32 → (Option Nat) → Int32 → Int32 → Int32 → Int32 → Int32 → Option (Int32 × aH)} {a0 : Option Nat} {a1 : Int32} {a2 : Int32} {a3 : Option Nat} {a4 : Int32} {a8 : Int32} {a9 : Int32} {a10 : Int32} {q : Int32} {g : aH} (X : aX p l R s m meth c D n0 s0 yX1_chosen cX1_chosen 15 3203 12 (some .int) h0) (k110 : ∀ (h : aH) (a0 : Option Nat) (a1 : Int32) (a2 : Int32) (a3 : Option Nat) (a4 : Int32) (a5 : Int32) (a6 : Int32) (a7 : Int32) (a8 : Int32) (q : Int32) (g : aH), K110 h a0 a1 a2 a3 a4 a5 a6 a7 a8 = some (q, g) → V p l e R s m args below meth c D n0 s0 (aEnd D below args s h0 (.inr (some (.int q)), g)) h 110 [(0, false, va_rf a0), (1, false, .int a1), (2, false, .int a2), (3, false, va_rf a3), (4, false, .int a4), (5, false, .int a5), (6, false, .int a6), (7, false, .int a7), (8, false, .int a8)] []) (hf : fX1_chosen_p224 D K110 h a0 a1 a2 a3 a4 a8 a9 a10 = some (q, g)) : V p l e R s m args below meth c D n0 s0 (aEnd D below args s h0 (.inr (some (.int q)), g)) h 224 [(0, false, va_rf a0), (1, false, .int a1), (2, false, .int a2), (3, false, va_rf a3), (4, false, .int a4), (8, false, .int a8), (9, false, .int a9), (10, false, .int a10)] [] := by
  have C := X.1
  unfold fX1_chosen_p224 at hf
  refine v_iload (pc := 224) (j := 5) C dX1_chosen_224 rfl ?_
  refine v_istore (pc := 226) (lv' := [(5, false, .int a8), (0, false, va_rf a0), (1, false, .int a1), (2, false, .int a2), (3, false, va_rf a3), (4, false, .int a4), (8, false, .int a8), (9, false, .int a9), (10, false, .int a10)]) C dX1_chosen_226 (by decide) rfl ?_
  refine v_iload (pc := 228) (j := 8) C dX1_chosen_228 rfl ?_
  refine v_istore (pc := 230) (lv' := [(6, false, .int a10), (5, false, .int a8), (0, false, va_rf a0), (1, false, .int a1), (2, false, .int a2), (3, false, va_rf a3), (4, false, .int a4), (8, false, .int a8), (9, false, .int a9), (10, false, .int a10)]) C dX1_chosen_230 (by decide) rfl ?_
  refine v_iload (pc := 232) (j := 8) C dX1_chosen_232 rfl ?_
  refine v_istore (pc := 234) (lv' := [(7, false, .int a9), (6, false, .int a10), (5, false, .int a8), (0, false, va_rf a0), (1, false, .int a1), (2, false, .int a2), (3, false, va_rf a3), (4, false, .int a4), (8, false, .int a8), (9, false, .int a9), (10, false, .int a10)]) C dX1_chosen_234 (by decide) rfl ?_
  exact V.sub [3, 4, 5, 6, 7, 2, 1, 0, 8] rfl (vX1_chosen_p236 X k110 hf)
def fX1_chosen_p194 (D : aD) (K110 : aH → (Option Nat) → Int32 → Int32 → (Option Nat) → Int32 → Int32 → Int32 → Int32 → Int32 → Option (Int32 × aH)) (h : aH) (a0 : Option Nat) (a1 : Int32) (a2 : Int32) (a3 : Option Nat) (a4 : Int32) (a5 : Int32) (a6 : Int32) (a7 : Int32) (a8 : Int32) (a9 : Int32) (a10 : Int32) : Option (Int32 × aH) :=
  if a1 < a9 then
  (fX1_chosen_p236 D K110 h a0 a1 a2 a3 a4 a5 a6 a7 a8)
  else
  (if a10 < a6 then
  (fX1_chosen_p236 D K110 h a0 a1 a2 a3 a4 a5 a6 a7 a8)
  else
  (if a10 = a6 then
  (if a9 < a7 then
  (fX1_chosen_p224 D K110 h a0 a1 a2 a3 a4 a8 a9 a10)
  else
  (fX1_chosen_p236 D K110 h a0 a1 a2 a3 a4 a5 a6 a7 a8))
  else
  (fX1_chosen_p224 D K110 h a0 a1 a2 a3 a4 a8 a9 a10)))
theorem vX1_chosen_p194 {h : aH} {K110 : aH → (Option Nat) → Int32 → Int32 → (Option Nat) → Int32 → Int32 → Int32 → Int32 → Int32 → Option (Int32 × aH)} {a0 : Option Nat} {a1 : Int32} {a2 : Int32} {a3 : Option Nat} {a4 : Int32} {a5 : Int32} {a6 : Int32} {a7 : Int32} {a8 : Int32} {a9 : Int32} {a10 : Int32} {q : Int32} {g : aH} (X : aX p l R s m meth c D n0 s0 yX1_chosen cX1_chosen 15 3203 12 (some .int) h0) (k110 : ∀ (h : aH) (a0 : Option Nat) (a1 : Int32) (a2 : Int32) (a3 : Option Nat) (a4 : Int32) (a5 : Int32) (a6 : Int32) (a7 : Int32) (a8 : Int32) (q : Int32) (g : aH), K110 h a0 a1 a2 a3 a4 a5 a6 a7 a8 = some (q, g) → V p l e R s m args below meth c D n0 s0 (aEnd D below args s h0 (.inr (some (.int q)), g)) h 110 [(0, false, va_rf a0), (1, false, .int a1), (2, false, .int a2), (3, false, va_rf a3), (4, false, .int a4), (5, false, .int a5), (6, false, .int a6), (7, false, .int a7), (8, false, .int a8)] []) (hf : fX1_chosen_p194 D K110 h a0 a1 a2 a3 a4 a5 a6 a7 a8 a9 a10 = some (q, g)) : V p l e R s m args below meth c D n0 s0 (aEnd D below args s h0 (.inr (some (.int q)), g)) h 194 [(0, false, va_rf a0), (1, false, .int a1), (2, false, .int a2), (3, false, va_rf a3), (4, false, .int a4), (5, false, .int a5), (6, false, .int a6), (7, false, .int a7), (8, false, .int a8), (9, false, .int a9), (10, false, .int a10)] [] := by
  have C := X.1
  unfold fX1_chosen_p194 at hf
  refine v_iload (pc := 194) (j := 9) C dX1_chosen_194 rfl ?_
  refine v_iload_n (pc := 196) (j := 1) C dX1_chosen_196 rfl rfl ?_
  refine v_icmp_gt (pc := 197) (tgt := 236) C dX1_chosen_197 rfl (fun hc => ?_) (fun hc => ?_)
  · rw [if_pos hc] at hf
    exact V.sub [0, 1, 2, 3, 4, 5, 6, 7, 8] rfl (vX1_chosen_p236 X k110 hf)
  · rw [if_neg hc] at hf
    refine v_iload (pc := 200) (j := 10) C dX1_chosen_200 rfl ?_
    refine v_iload (pc := 202) (j := 6) C dX1_chosen_202 rfl ?_
    refine v_icmp_lt (pc := 204) (tgt := 236) C dX1_chosen_204 rfl (fun hc => ?_) (fun hc => ?_)
    · rw [if_pos hc] at hf
      exact V.sub [0, 1, 2, 3, 4, 5, 6, 7, 8] rfl (vX1_chosen_p236 X k110 hf)
    · rw [if_neg hc] at hf
      refine v_iload (pc := 207) (j := 10) C dX1_chosen_207 rfl ?_
      refine v_iload (pc := 209) (j := 6) C dX1_chosen_209 rfl ?_
      refine v_icmp_ne (pc := 211) (tgt := 224) C dX1_chosen_211 rfl (fun hc => ?_) (fun hc => ?_)
      · rw [if_neg hc] at hf
        exact V.sub [0, 1, 2, 3, 4, 8, 9, 10] rfl (vX1_chosen_p224 X k110 hf)
      · rw [if_pos (Decidable.of_not_not hc)] at hf
        refine v_iload (pc := 214) (j := 9) C dX1_chosen_214 rfl ?_
        refine v_iload (pc := 216) (j := 7) C dX1_chosen_216 rfl ?_
        refine v_icmp_lt (pc := 218) (tgt := 224) C dX1_chosen_218 rfl (fun hc => ?_) (fun hc => ?_)
        · rw [if_pos hc] at hf
          exact V.sub [0, 1, 2, 3, 4, 8, 9, 10] rfl (vX1_chosen_p224 X k110 hf)
        · rw [if_neg hc] at hf
          refine v_goto (pc := 221) (tgt := 236) C dX1_chosen_221 rfl ?_
          exact V.sub [0, 1, 2, 3, 4, 5, 6, 7, 8] rfl (vX1_chosen_p236 X k110 hf)
def fX1_chosen_p140 (D : aD) (K110 : aH → (Option Nat) → Int32 → Int32 → (Option Nat) → Int32 → Int32 → Int32 → Int32 → Int32 → Option (Int32 × aH)) : Nat → aH → (Option Nat) → Int32 → Int32 → (Option Nat) → Int32 → Int32 → Int32 → Int32 → Int32 → Int32 → Int32 → Int32 → Option (Int32 × aH)
  | 0, _, _, _, _, _, _, _, _, _, _, _, _, _ => none
  | n + 1, h, a0, a1, a2, a3, a4, a5, a6, a7, a8, a9, a10, a11 =>
  if a2 ≤ a11 then
  (fX1_chosen_p194 D K110 h a0 a1 a2 a3 a4 a5 a6 a7 a8 a9 a10)
  else
  ((fX1_has_2 D h a8 a11).bind fun x2 =>
  if x2 = 0 then
  (fX1_chosen_p188 D K110 (fX1_chosen_p140 D K110 n) h a0 a1 a2 a3 a4 a5 a6 a7 a8 a9 a10 a11)
  else
  ((gR h 0 11 a0).bind fun x4 =>
  (aIs h 15 x4).bind fun _ =>
  (fJ2_get D h x4 a11).bind fun x6 =>
  (aCast h [13] x6).bind fun _ =>
  (gI h 13 1 x6).bind fun x9 =>
  (some ((a9 + x9))).bind fun x10 =>
  (eI h a3 a11).bind fun x11 =>
  (some ((a10 + x11))).bind fun x12 =>
  fX1_chosen_p188 D K110 (fX1_chosen_p140 D K110 n) h a0 a1 a2 a3 a4 a5 a6 a7 a8 x10 x12 a11))
theorem vX1_chosen_p140 {K110 : aH → (Option Nat) → Int32 → Int32 → (Option Nat) → Int32 → Int32 → Int32 → Int32 → Int32 → Option (Int32 × aH)} (X : aX p l R s m meth c D n0 s0 yX1_chosen cX1_chosen 15 3203 12 (some .int) h0) (k110 : ∀ (h : aH) (a0 : Option Nat) (a1 : Int32) (a2 : Int32) (a3 : Option Nat) (a4 : Int32) (a5 : Int32) (a6 : Int32) (a7 : Int32) (a8 : Int32) (q : Int32) (g : aH), K110 h a0 a1 a2 a3 a4 a5 a6 a7 a8 = some (q, g) → V p l e R s m args below meth c D n0 s0 (aEnd D below args s h0 (.inr (some (.int q)), g)) h 110 [(0, false, va_rf a0), (1, false, .int a1), (2, false, .int a2), (3, false, va_rf a3), (4, false, .int a4), (5, false, .int a5), (6, false, .int a6), (7, false, .int a7), (8, false, .int a8)] []) : ∀ (n : Nat) (h : aH) (a0 : Option Nat) (a1 : Int32) (a2 : Int32) (a3 : Option Nat) (a4 : Int32) (a5 : Int32) (a6 : Int32) (a7 : Int32) (a8 : Int32) (a9 : Int32) (a10 : Int32) (a11 : Int32) (q : Int32) (g : aH), fX1_chosen_p140 D K110 n h a0 a1 a2 a3 a4 a5 a6 a7 a8 a9 a10 a11 = some (q, g) → V p l e R s m args below meth c D n0 s0 (aEnd D below args s h0 (.inr (some (.int q)), g)) h 140 [(0, false, va_rf a0), (1, false, .int a1), (2, false, .int a2), (3, false, va_rf a3), (4, false, .int a4), (5, false, .int a5), (6, false, .int a6), (7, false, .int a7), (8, false, .int a8), (9, false, .int a9), (10, false, .int a10), (11, false, .int a11)] [] := by
  have C := X.1
  intro n
  induction n with
  | zero =>
    intro _ _ _ _ _ _ _ _ _ _ _ _ _ _ _ hf
    rw [fX1_chosen_p140] at hf
    cases hf
  | succ n ih =>
    intro h a0 a1 a2 a3 a4 a5 a6 a7 a8 a9 a10 a11 q g hf
    rw [fX1_chosen_p140] at hf
    refine v_iload (pc := 140) (j := 11) C dX1_chosen_140 rfl ?_
    refine v_iload_n (pc := 142) (j := 2) C dX1_chosen_142 rfl rfl ?_
    refine v_icmp_ge (pc := 143) (tgt := 194) C dX1_chosen_143 rfl (fun hc => ?_) (fun hc => ?_)
    · rw [if_pos hc] at hf
      exact V.sub [0, 1, 2, 3, 4, 5, 6, 7, 8, 9, 10] rfl (vX1_chosen_p194 X k110 hf)
    · rw [if_neg hc] at hf
      refine v_iload (pc := 146) (j := 8) C dX1_chosen_146 rfl ?_
      refine v_iload (pc := 148) (j := 11) C dX1_chosen_148 rfl ?_
      obtain ⟨x2, ex2, hf⟩ := oB hf
      refine v_call (pc := 150) (d_S (pc := 150) C (As := [.int a8, .int a11]) (rest := []) q1251 q1244 yk_X1_has_2 rfl (by decide) (by decide) (Nat.le_trans aw_0 (by decide)) rfl (mX1_has_2 C.st ex2) dX1_chosen_150) ?_
      refine v_if_ne (pc := 153) (tgt := 159) C dX1_chosen_153 rfl (fun hc => ?_) (fun hc => ?_)
      · rw [if_neg hc] at hf
        refine v_iload (pc := 159) (j := 9) C dX1_chosen_159 rfl ?_
        refine v_aload_n (pc := 161) (j := 0) C dX1_chosen_161 rfl rfl ?_
        obtain ⟨x4, ex4, hf⟩ := oB hf
        refine v_getF (pc := 162) C lk_X1_81 (gR_eq ex4) dX1_chosen_162 ?_
        refine v_iload (pc := 165) (j := 11) C dX1_chosen_165 rfl ?_
        obtain ⟨b5, eb5, hf⟩ := oB hf
        obtain ⟨rb5, _, kb5⟩ := aIs_eq eb5
        obtain ⟨x6, ex6, hf⟩ := oB hf
        refine v_call (pc := 167) (d_V (pc := 167) C (As := [.int a11]) (rest := [.int a9]) rb5 kb5 nt_15 q379 yi_J2_get_java_util_ArrayList yk_J2_get rfl (by decide) (by decide) (Nat.le_trans (aw_i aw_0) (by decide)) rfl (mJ2_get C.st ex6) dX1_chosen_167) ?_
        obtain ⟨_, e8, hf⟩ := oB hf
        refine v_cast (pc := 170) C q2340 ct_FigureSurvey_Work e8 dX1_chosen_170 ?_
        obtain ⟨x9, ex9, hf⟩ := oB hf
        refine v_getF (pc := 173) C lk_X1_473 (gI_eq ex9) dX1_chosen_173 ?_
        refine v_iadd (pc := 176) C dX1_chosen_176 ?_
        obtain ⟨x10, ex10, hf⟩ := oB hf
        refine vst (Option.some.inj ex10) (fun z => .int z :: []) ?_
        refine v_istore (pc := 177) (lv' := [(9, false, .int x10), (0, false, va_rf a0), (1, false, .int a1), (2, false, .int a2), (3, false, va_rf a3), (4, false, .int a4), (5, false, .int a5), (6, false, .int a6), (7, false, .int a7), (8, false, .int a8), (10, false, .int a10), (11, false, .int a11)]) C dX1_chosen_177 (by decide) rfl ?_
        refine v_iload (pc := 179) (j := 10) C dX1_chosen_179 rfl ?_
        refine v_aload_n (pc := 181) (j := 4) C dX1_chosen_181 rfl rfl ?_
        refine v_iload (pc := 182) (j := 11) C dX1_chosen_182 rfl ?_
        obtain ⟨x11, ex11, hf⟩ := oB hf
        refine v_iaload (pc := 184) C ex11 dX1_chosen_184 ?_
        refine v_iadd (pc := 185) C dX1_chosen_185 ?_
        obtain ⟨x12, ex12, hf⟩ := oB hf
        refine vst (Option.some.inj ex12) (fun z => .int z :: []) ?_
        refine v_istore (pc := 186) (lv' := [(10, false, .int x12), (9, false, .int x10), (0, false, va_rf a0), (1, false, .int a1), (2, false, .int a2), (3, false, va_rf a3), (4, false, .int a4), (5, false, .int a5), (6, false, .int a6), (7, false, .int a7), (8, false, .int a8), (11, false, .int a11)]) C dX1_chosen_186 (by decide) rfl ?_
        exact V.sub [2, 3, 4, 5, 6, 7, 8, 9, 10, 1, 0, 11] rfl (vX1_chosen_p188 X k110 ih hf)
      · rw [if_pos (Decidable.of_not_not hc)] at hf
        refine v_goto (pc := 156) (tgt := 188) C dX1_chosen_156 rfl ?_
        exact V.sub [0, 1, 2, 3, 4, 5, 6, 7, 8, 9, 10, 11] rfl (vX1_chosen_p188 X k110 ih hf)
def fX1_chosen_p110 (D : aD) : Nat → aH → (Option Nat) → Int32 → Int32 → (Option Nat) → Int32 → Int32 → Int32 → Int32 → Int32 → Option (Int32 × aH)
  | 0, _, _, _, _, _, _, _, _, _, _ => none
  | n + 1, h, a0, a1, a2, a3, a4, a5, a6, a7, a8 =>
  if ((1 : Int32) <<< (a2 &&& 31)) ≤ a8 then
  (some (a5, h))
  else
  (if (a8 &&& (a4 ^^^ (-1 : Int32))) = 0 then
  (fX1_chosen_p140 D (fX1_chosen_p110 D n) FU h a0 a1 a2 a3 a4 a5 a6 a7 a8 (0 : Int32) (0 : Int32) (0 : Int32))
  else
  (fX1_chosen_p236 D (fX1_chosen_p110 D n) h a0 a1 a2 a3 a4 a5 a6 a7 a8))
theorem vX1_chosen_p110 (X : aX p l R s m meth c D n0 s0 yX1_chosen cX1_chosen 15 3203 12 (some .int) h0) : ∀ (n : Nat) (h : aH) (a0 : Option Nat) (a1 : Int32) (a2 : Int32) (a3 : Option Nat) (a4 : Int32) (a5 : Int32) (a6 : Int32) (a7 : Int32) (a8 : Int32) (q : Int32) (g : aH), fX1_chosen_p110 D n h a0 a1 a2 a3 a4 a5 a6 a7 a8 = some (q, g) → V p l e R s m args below meth c D n0 s0 (aEnd D below args s h0 (.inr (some (.int q)), g)) h 110 [(0, false, va_rf a0), (1, false, .int a1), (2, false, .int a2), (3, false, va_rf a3), (4, false, .int a4), (5, false, .int a5), (6, false, .int a6), (7, false, .int a7), (8, false, .int a8)] [] := by
  have C := X.1
  intro n
  induction n with
  | zero =>
    intro _ _ _ _ _ _ _ _ _ _ _ _ hf
    rw [fX1_chosen_p110] at hf
    cases hf
  | succ n ih =>
    intro h a0 a1 a2 a3 a4 a5 a6 a7 a8 q g hf
    rw [fX1_chosen_p110] at hf
    refine v_iload (pc := 110) (j := 8) C dX1_chosen_110 rfl ?_
    refine v_iconst (pc := 112) (v := (1 : Int32)) C dX1_chosen_112 rfl ?_
    refine v_iload_n (pc := 113) (j := 2) C dX1_chosen_113 rfl rfl ?_
    refine v_ishl (pc := 114) C dX1_chosen_114 ?_
    refine v_icmp_ge (pc := 115) (tgt := 242) C dX1_chosen_115 rfl (fun hc => ?_) (fun hc => ?_)
    · rw [if_pos hc] at hf
      refine v_iload (pc := 242) (j := 5) C dX1_chosen_242 rfl ?_
      cases hf
      exact v_ireturn (pc := 244) C X.2.1 X.2.2.1 X.2.2.2.1 rfl dX1_chosen_244
    · rw [if_neg hc] at hf
      refine v_iload (pc := 118) (j := 8) C dX1_chosen_118 rfl ?_
      refine v_iload (pc := 120) (j := 4) C dX1_chosen_120 rfl ?_
      refine v_iconst (pc := 122) (v := (-1 : Int32)) C dX1_chosen_122 rfl ?_
      refine v_ixor (pc := 123) C dX1_chosen_123 ?_
      refine v_iand (pc := 124) C dX1_chosen_124 ?_
      refine v_if_eq (pc := 125) (tgt := 131) C dX1_chosen_125 rfl (fun hc => ?_) (fun hc => ?_)
      · rw [if_pos hc] at hf
        refine v_iconst (pc := 131) (v := (0 : Int32)) C dX1_chosen_131 rfl ?_
        refine v_istore (pc := 132) (lv' := [(9, false, .int (0 : Int32)), (0, false, va_rf a0), (1, false, .int a1), (2, false, .int a2), (3, false, va_rf a3), (4, false, .int a4), (5, false, .int a5), (6, false, .int a6), (7, false, .int a7), (8, false, .int a8)]) C dX1_chosen_132 (by decide) rfl ?_
        refine v_iconst (pc := 134) (v := (0 : Int32)) C dX1_chosen_134 rfl ?_
        refine v_istore (pc := 135) (lv' := [(10, false, .int (0 : Int32)), (9, false, .int (0 : Int32)), (0, false, va_rf a0), (1, false, .int a1), (2, false, .int a2), (3, false, va_rf a3), (4, false, .int a4), (5, false, .int a5), (6, false, .int a6), (7, false, .int a7), (8, false, .int a8)]) C dX1_chosen_135 (by decide) rfl ?_
        refine v_iconst (pc := 137) (v := (0 : Int32)) C dX1_chosen_137 rfl ?_
        refine v_istore (pc := 138) (lv' := [(11, false, .int (0 : Int32)), (10, false, .int (0 : Int32)), (9, false, .int (0 : Int32)), (0, false, va_rf a0), (1, false, .int a1), (2, false, .int a2), (3, false, va_rf a3), (4, false, .int a4), (5, false, .int a5), (6, false, .int a6), (7, false, .int a7), (8, false, .int a8)]) C dX1_chosen_138 (by decide) rfl ?_
        exact V.sub [3, 4, 5, 6, 7, 8, 9, 10, 11, 2, 1, 0] rfl (vX1_chosen_p140 X ih _ _ _ _ _ _ _ _ _ _ _ _ _ _ _ _ hf)
      · rw [if_neg hc] at hf
        refine v_goto (pc := 128) (tgt := 236) C dX1_chosen_128 rfl ?_
        exact V.sub [0, 1, 2, 3, 4, 5, 6, 7, 8] rfl (vX1_chosen_p236 X ih hf)
def fX1_chosen_p98 (D : aD) (h : aH) (a0 : Option Nat) (a1 : Int32) (a2 : Int32) (a3 : Option Nat) (a4 : Int32) : Option (Int32 × aH) :=
  fX1_chosen_p110 D FU h a0 a1 a2 a3 a4 (0 : Int32) (0 : Int32) (0 : Int32) (1 : Int32)
theorem vX1_chosen_p98 {h : aH} {a0 : Option Nat} {a1 : Int32} {a2 : Int32} {a3 : Option Nat} {a4 : Int32} {q : Int32} {g : aH} (X : aX p l R s m meth c D n0 s0 yX1_chosen cX1_chosen 15 3203 12 (some .int) h0) (hf : fX1_chosen_p98 D h a0 a1 a2 a3 a4 = some (q, g)) : V p l e R s m args below meth c D n0 s0 (aEnd D below args s h0 (.inr (some (.int q)), g)) h 98 [(0, false, va_rf a0), (1, false, .int a1), (2, false, .int a2), (3, false, va_rf a3), (4, false, .int a4)] [] := by
  have C := X.1
  unfold fX1_chosen_p98 at hf
  refine v_iconst (pc := 98) (v := (0 : Int32)) C dX1_chosen_98 rfl ?_
  refine v_istore (pc := 99) (lv' := [(5, false, .int (0 : Int32)), (0, false, va_rf a0), (1, false, .int a1), (2, false, .int a2), (3, false, va_rf a3), (4, false, .int a4)]) C dX1_chosen_99 (by decide) rfl ?_
  refine v_iconst (pc := 101) (v := (0 : Int32)) C dX1_chosen_101 rfl ?_
  refine v_istore (pc := 102) (lv' := [(6, false, .int (0 : Int32)), (5, false, .int (0 : Int32)), (0, false, va_rf a0), (1, false, .int a1), (2, false, .int a2), (3, false, va_rf a3), (4, false, .int a4)]) C dX1_chosen_102 (by decide) rfl ?_
  refine v_iconst (pc := 104) (v := (0 : Int32)) C dX1_chosen_104 rfl ?_
  refine v_istore (pc := 105) (lv' := [(7, false, .int (0 : Int32)), (6, false, .int (0 : Int32)), (5, false, .int (0 : Int32)), (0, false, va_rf a0), (1, false, .int a1), (2, false, .int a2), (3, false, va_rf a3), (4, false, .int a4)]) C dX1_chosen_105 (by decide) rfl ?_
  refine v_iconst (pc := 107) (v := (1 : Int32)) C dX1_chosen_107 rfl ?_
  refine v_istore (pc := 108) (lv' := [(8, false, .int (1 : Int32)), (7, false, .int (0 : Int32)), (6, false, .int (0 : Int32)), (5, false, .int (0 : Int32)), (0, false, va_rf a0), (1, false, .int a1), (2, false, .int a2), (3, false, va_rf a3), (4, false, .int a4)]) C dX1_chosen_108 (by decide) rfl ?_
  exact V.sub [4, 5, 6, 7, 8, 3, 2, 1, 0] rfl (vX1_chosen_p110 X _ _ _ _ _ _ _ _ _ _ _ _ _ hf)
def fX1_chosen_p18 (D : aD) : Nat → aH → (Option Nat) → Int32 → Int32 → (Option Nat) → Int32 → Int32 → Option (Int32 × aH)
  | 0, _, _, _, _, _, _, _ => none
  | n + 1, h, a0, a1, a2, a3, a4, a5 =>
  if a2 ≤ a5 then
  (fX1_chosen_p98 D h a0 a1 a2 a3 a4)
  else
  ((gR h 0 11 a0).bind fun x1 =>
  (aIs h 15 x1).bind fun _ =>
  (fJ2_get D h x1 a5).bind fun x3 =>
  (aCast h [13] x3).bind fun _ =>
  (gI h 13 2 x3).bind fun x6 =>
  (gR h 0 11 a0).bind fun x7 =>
  (aIs h 15 x7).bind fun _ =>
  (fJ2_get D h x7 a5).bind fun x9 =>
  (aCast h [13] x9).bind fun _ =>
  (gR h 13 0 x9).bind fun x12 =>
  (aIs h 0 a0).bind fun _ =>
  bnd2 (fX1_genuineOn D h a0 x12) fun x14 h15 =>
  (sF D h15 100 a3 a5 (.int (x6 * ((1 : Int32) + x14)))).bind fun h16 =>
  (gR h16 0 11 a0).bind fun x17 =>
  (aIs h16 15 x17).bind fun _ =>
  (fJ2_get D h16 x17 a5).bind fun x19 =>
  (aCast h16 [13] x19).bind fun _ =>
  (gI h16 13 3 x19).bind fun x22 =>
  if x22 = 0 then
  ((some ((a4 ||| ((1 : Int32) <<< (a5 &&& 31))))).bind fun x23 =>
  fX1_chosen_p92 D (fX1_chosen_p18 D n) h16 a0 a1 a2 a3 x23 a5)
  else
  (fX1_chosen_p92 D (fX1_chosen_p18 D n) h16 a0 a1 a2 a3 a4 a5))
theorem vX1_chosen_p18 (X : aX p l R s m meth c D n0 s0 yX1_chosen cX1_chosen 15 3203 12 (some .int) h0) : ∀ (n : Nat) (h : aH) (a0 : Option Nat) (a1 : Int32) (a2 : Int32) (a3 : Option Nat) (a4 : Int32) (a5 : Int32) (q : Int32) (g : aH), fX1_chosen_p18 D n h a0 a1 a2 a3 a4 a5 = some (q, g) → V p l e R s m args below meth c D n0 s0 (aEnd D below args s h0 (.inr (some (.int q)), g)) h 18 [(0, false, va_rf a0), (1, false, .int a1), (2, false, .int a2), (3, false, va_rf a3), (4, false, .int a4), (5, false, .int a5)] [] := by
  have C := X.1
  intro n
  induction n with
  | zero =>
    intro _ _ _ _ _ _ _ _ _ hf
    rw [fX1_chosen_p18] at hf
    cases hf
  | succ n ih =>
    intro h a0 a1 a2 a3 a4 a5 q g hf
    rw [fX1_chosen_p18] at hf
    refine v_iload (pc := 18) (j := 5) C dX1_chosen_18 rfl ?_
    refine v_iload_n (pc := 20) (j := 2) C dX1_chosen_20 rfl rfl ?_
    refine v_icmp_ge (pc := 21) (tgt := 98) C dX1_chosen_21 rfl (fun hc => ?_) (fun hc => ?_)
    · rw [if_pos hc] at hf
      exact V.sub [0, 1, 2, 3, 4] rfl (vX1_chosen_p98 X hf)
    · rw [if_neg hc] at hf
      refine v_aload_n (pc := 24) (j := 3) C dX1_chosen_24 rfl rfl ?_
      refine v_iload (pc := 25) (j := 5) C dX1_chosen_25 rfl ?_
      refine v_aload_n (pc := 27) (j := 0) C dX1_chosen_27 rfl rfl ?_
      obtain ⟨x1, ex1, hf⟩ := oB hf
      refine v_getF (pc := 28) C lk_X1_81 (gR_eq ex1) dX1_chosen_28 ?_
      refine v_iload (pc := 31) (j := 5) C dX1_chosen_31 rfl ?_
      obtain ⟨b2, eb2, hf⟩ := oB hf
      obtain ⟨rb2, _, kb2⟩ := aIs_eq eb2
      obtain ⟨x3, ex3, hf⟩ := oB hf
      refine v_call (pc := 33) (d_V (pc := 33) C (As := [.int a5]) (rest := [.int a5, va_rf a3]) rb2 kb2 nt_15 q379 yi_J2_get_java_util_ArrayList yk_J2_get rfl (by decide) (by decide) (Nat.le_trans (aw_i (aw_r aw_0)) (by decide)) rfl (mJ2_get C.st ex3) dX1_chosen_33) ?_
      obtain ⟨_, e5, hf⟩ := oB hf
      refine v_cast (pc := 36) C q2340 ct_FigureSurvey_Work e5 dX1_chosen_36 ?_
      obtain ⟨x6, ex6, hf⟩ := oB hf
      refine v_getF (pc := 39) C lk_X1_463 (gI_eq ex6) dX1_chosen_39 ?_
      refine v_iconst (pc := 42) (v := (1 : Int32)) C dX1_chosen_42 rfl ?_
      refine v_aload_n (pc := 43) (j := 0) C dX1_chosen_43 rfl rfl ?_
      refine v_aload_n (pc := 44) (j := 0) C dX1_chosen_44 rfl rfl ?_
      obtain ⟨x7, ex7, hf⟩ := oB hf
      refine v_getF (pc := 45) C lk_X1_81 (gR_eq ex7) dX1_chosen_45 ?_
      refine v_iload (pc := 48) (j := 5) C dX1_chosen_48 rfl ?_
      obtain ⟨b8, eb8, hf⟩ := oB hf
      obtain ⟨rb8, _, kb8⟩ := aIs_eq eb8
      obtain ⟨x9, ex9, hf⟩ := oB hf
      refine v_call (pc := 50) (d_V (pc := 50) C (As := [.int a5]) (rest := [va_rf a0, .int (1 : Int32), .int x6, .int a5, va_rf a3]) rb8 kb8 nt_15 q379 yi_J2_get_java_util_ArrayList yk_J2_get rfl (by decide) (by decide) (Nat.le_trans (aw_r (aw_i (aw_i (aw_i (aw_r aw_0))))) (by decide)) rfl (mJ2_get C.st ex9) dX1_chosen_50) ?_
      obtain ⟨_, e11, hf⟩ := oB hf
      refine v_cast (pc := 53) C q2340 ct_FigureSurvey_Work e11 dX1_chosen_53 ?_
      obtain ⟨x12, ex12, hf⟩ := oB hf
      refine v_getF (pc := 56) C lk_X1_465 (gR_eq ex12) dX1_chosen_56 ?_
      obtain ⟨b13, eb13, hf⟩ := oB hf
      obtain ⟨rb13, _, kb13⟩ := aIs_eq eb13
      obtain ⟨x14, h15, ex14, hf⟩ := bnd2_eq hf
      refine v_call (pc := 59) (d_V (pc := 59) C (As := [va_rf x12]) (rest := [.int (1 : Int32), .int x6, .int a5, va_rf a3]) rb13 kb13 nt_0 q2373 yi_X1_genuineOn_FigureSurvey yk_X1_genuineOn rfl (by decide) (by decide) (Nat.le_trans (aw_i (aw_i (aw_i (aw_r aw_0)))) (by decide)) rfl (mX1_genuineOn C.st ex14) dX1_chosen_59) ?_
      refine v_iadd (pc := 62) C dX1_chosen_62 ?_
      refine v_imul (pc := 63) C dX1_chosen_63 ?_
      obtain ⟨h16, eh16, hf⟩ := oB hf
      refine v_iastore (pc := 64) C eh16 dX1_chosen_64 ?_
      refine v_aload_n (pc := 65) (j := 0) C dX1_chosen_65 rfl rfl ?_
      obtain ⟨x17, ex17, hf⟩ := oB hf
      refine v_getF (pc := 66) C lk_X1_81 (gR_eq ex17) dX1_chosen_66 ?_
      refine v_iload (pc := 69) (j := 5) C dX1_chosen_69 rfl ?_
      obtain ⟨b18, eb18, hf⟩ := oB hf
      obtain ⟨rb18, _, kb18⟩ := aIs_eq eb18
      obtain ⟨x19, ex19, hf⟩ := oB hf
      refine v_call (pc := 71) (d_V (pc := 71) C (As := [.int a5]) (rest := []) rb18 kb18 nt_15 q379 yi_J2_get_java_util_ArrayList yk_J2_get rfl (by decide) (by decide) (Nat.le_trans aw_0 (by decide)) rfl (mJ2_get C.st ex19) dX1_chosen_71) ?_
      obtain ⟨_, e21, hf⟩ := oB hf
      refine v_cast (pc := 74) C q2340 ct_FigureSurvey_Work e21 dX1_chosen_74 ?_
      obtain ⟨x22, ex22, hf⟩ := oB hf
      refine v_getF (pc := 77) C lk_X1_470 (gI_eq ex22) dX1_chosen_77 ?_
      refine v_if_ne (pc := 80) (tgt := 92) C dX1_chosen_80 rfl (fun hc => ?_) (fun hc => ?_)
      · rw [if_neg hc] at hf
        exact V.sub [0, 1, 2, 3, 4, 5] rfl (vX1_chosen_p92 X ih hf)
      · rw [if_pos (Decidable.of_not_not hc)] at hf
        refine v_iload (pc := 83) (j := 4) C dX1_chosen_83 rfl ?_
        refine v_iconst (pc := 85) (v := (1 : Int32)) C dX1_chosen_85 rfl ?_
        refine v_iload (pc := 86) (j := 5) C dX1_chosen_86 rfl ?_
        refine v_ishl (pc := 88) C dX1_chosen_88 ?_
        refine v_ior (pc := 89) C dX1_chosen_89 ?_
        obtain ⟨x23, ex23, hf⟩ := oB hf
        refine vst (Option.some.inj ex23) (fun z => .int z :: []) ?_
        refine v_istore (pc := 90) (lv' := [(4, false, .int x23), (0, false, va_rf a0), (1, false, .int a1), (2, false, .int a2), (3, false, va_rf a3), (5, false, .int a5)]) C dX1_chosen_90 (by decide) rfl ?_
        exact V.sub [1, 2, 3, 4, 0, 5] rfl (vX1_chosen_p92 X ih hf)
def fX1_chosen (D : aD) (h : aH) (a0 : Option Nat) (a1 : Int32) : Option (Int32 × aH) :=
  (gR h 0 11 a0).bind fun x1 =>
  (aIs h 15 x1).bind fun _ =>
  (fJ2_size D h x1).bind fun x3 =>
  (aMkA D h 100 x3 (.int 0)).bind fun h5 =>
  fX1_chosen_p18 D FU h5 a0 a1 x3 (some h.1) (0 : Int32) (0 : Int32)
theorem vX1_chosen {h : aH} {a0 : Option Nat} {a1 : Int32} {q : Int32} {g : aH} (X : aX p l R s m meth c D n0 s0 yX1_chosen cX1_chosen 15 3203 12 (some .int) h0) (hf : fX1_chosen D h a0 a1 = some (q, g)) : V p l e R s m args below meth c D n0 s0 (aEnd D below args s h0 (.inr (some (.int q)), g)) h 0 [(0, false, va_rf a0), (1, false, .int a1)] [] := by
  have C := X.1
  unfold fX1_chosen at hf
  refine v_aload_n (pc := 0) (j := 0) C dX1_chosen_0 rfl rfl ?_
  obtain ⟨x1, ex1, hf⟩ := oB hf
  refine v_getF (pc := 1) C lk_X1_81 (gR_eq ex1) dX1_chosen_1 ?_
  obtain ⟨b2, eb2, hf⟩ := oB hf
  obtain ⟨rb2, _, kb2⟩ := aIs_eq eb2
  obtain ⟨x3, ex3, hf⟩ := oB hf
  refine v_call (pc := 4) (d_V (pc := 4) C (As := []) (rest := []) rb2 kb2 nt_15 q375 yi_J2_size_java_util_ArrayList yk_J2_size rfl (by decide) (by decide) (Nat.le_trans aw_0 (by decide)) rfl (mJ2_size C.st ex3) dX1_chosen_4) ?_
  refine v_istore_n (pc := 7) (lv' := [(2, false, .int x3), (0, false, va_rf a0), (1, false, .int a1)]) C dX1_chosen_7 rfl (by decide) rfl ?_
  refine v_iload_n (pc := 8) (j := 0) C dX1_chosen_8 rfl rfl ?_
  obtain ⟨h5, eh5, hf⟩ := oB hf
  refine v_newarray (pc := 9) (t := 100) (v := .int 0) C q169 rfl rfl (by decide) (by decide) rfl eh5 dX1_chosen_9 ?_
  refine v_astore_n (pc := 11) (lv' := [(3, false, va_rf (some h.1)), (2, false, .int x3), (0, false, va_rf a0), (1, false, .int a1)]) C dX1_chosen_11 rfl (by decide) rfl ?_
  refine v_iconst (pc := 12) (v := (0 : Int32)) C dX1_chosen_12 rfl ?_
  refine v_istore (pc := 13) (lv' := [(4, false, .int (0 : Int32)), (3, false, va_rf (some h.1)), (2, false, .int x3), (0, false, va_rf a0), (1, false, .int a1)]) C dX1_chosen_13 (by decide) rfl ?_
  refine v_iconst (pc := 15) (v := (0 : Int32)) C dX1_chosen_15 rfl ?_
  refine v_istore (pc := 16) (lv' := [(5, false, .int (0 : Int32)), (4, false, .int (0 : Int32)), (3, false, va_rf (some h.1)), (2, false, .int x3), (0, false, va_rf a0), (1, false, .int a1)]) C dX1_chosen_16 (by decide) rfl ?_
  exact V.sub [4, 5, 3, 2, 1, 0] rfl (vX1_chosen_p18 X _ _ _ _ _ _ _ _ _ _ hf)
theorem mX1_chosen {l : Launch} {D : aD} {h : aH} {a0 : Option Nat} {a1 : Int32} {q : Int32} {g : aH} (hst : l.stackTraces = false) (hf : fX1_chosen D h a0 a1 = some (q, g)) : aM l D yX1_chosen cX1_chosen 12 (some .int) 15 3203 [va_rf a0, .int a1] h (.inr (some (.int q)), g) :=
  aM.ofX [(false, va_rf a0), (false, .int a1)] rfl (ap_r (ap_c rfl ap_0)) (by decide +kernel) hst (al_of (aw_r (aw_i aw_0)) (by decide)) fun p e s m args below meth c X => V.sub (lv' := [(0, false, va_rf a0), (1, false, .int a1)]) [0, 1] rfl (vX1_chosen X hf)
def fX1_worksFor (D : aD) (h : aH) (a0 : Option Nat) (a1 : Int32) : Option ((Nat ⊕ Int32) × aH) :=
  bndT (fX1_in D h a1 (0 : Int32) (10000 : Int32)) fun x2 h3 =>
  (aIs h3 0 a0).bind fun _ =>
  bnd2 (fX1_chosen D h3 a0 x2) fun x5 h6 =>
  some (.inr x5, h6)
theorem vX1_worksFor {h : aH} {a0 : Option Nat} {a1 : Int32} {q : Nat ⊕ Int32} {g : aH} (X : aX p l R s m meth c D n0 s0 yX1_worksFor cX1_worksFor 16 3234 2 (some .int) h0) (hf : fX1_worksFor D h a0 a1 = some (q, g)) : V p l e R s m args below meth c D n0 s0 (aEnd D below args s h0 (wI q, g)) h 0 [(0, false, va_rf a0), (1, false, .int a1)] [] := by
  have C := X.1
  unfold fX1_worksFor at hf
  refine v_aload_n (pc := 0) (j := 0) C dX1_worksFor_0 rfl rfl ?_
  refine v_iload_n (pc := 1) (j := 1) C dX1_worksFor_1 rfl rfl ?_
  refine v_iconst (pc := 2) (v := (0 : Int32)) C dX1_worksFor_2 rfl ?_
  refine v_sipush (pc := 3) (v := (10000 : Int32)) C dX1_worksFor_3 rfl ?_
  rcases bndT_eq hf with ⟨_, _, ex2, qx2⟩ | ⟨x2, h3, ex2, hf⟩
  · cases qx2; exact v_ofDx (pc := 6) C X.2.1 X.2.2.1 rfl X.2.2.2.2.1 (d_S (pc := 6) C (As := [.int a1, .int (0 : Int32), .int (10000 : Int32)]) (rest := [va_rf a0]) q1578 q1579 yk_X1_in rfl (by decide) (by decide) (Nat.le_trans (aw_r aw_0) (by decide)) rfl (mX1_in C.st ex2) dX1_worksFor_6)
  refine v_call (pc := 6) (d_S (pc := 6) C (As := [.int a1, .int (0 : Int32), .int (10000 : Int32)]) (rest := [va_rf a0]) q1578 q1579 yk_X1_in rfl (by decide) (by decide) (Nat.le_trans (aw_r aw_0) (by decide)) rfl (mX1_in C.st ex2) dX1_worksFor_6) ?_
  obtain ⟨b4, eb4, hf⟩ := oB hf
  obtain ⟨rb4, _, kb4⟩ := aIs_eq eb4
  obtain ⟨x5, h6, ex5, hf⟩ := bnd2_eq hf
  refine v_call (pc := 9) (d_V (pc := 9) C (As := [.int x2]) (rest := []) rb4 kb4 nt_0 q2369 yi_X1_chosen_FigureSurvey yk_X1_chosen rfl (by decide) (by decide) (Nat.le_trans aw_0 (by decide)) rfl (mX1_chosen C.st ex5) dX1_worksFor_9) ?_
  cases hf
  exact v_ireturn (pc := 12) C X.2.1 X.2.2.1 X.2.2.2.1 rfl dX1_worksFor_12
theorem mX1_worksFor {l : Launch} {D : aD} {h : aH} {a0 : Option Nat} {a1 : Int32} {q : Nat ⊕ Int32} {g : aH} (hst : l.stackTraces = false) (hf : fX1_worksFor D h a0 a1 = some (q, g)) : aM l D yX1_worksFor cX1_worksFor 2 (some .int) 16 3234 [va_rf a0, .int a1] h (wI q, g) :=
  aM.ofX [(false, va_rf a0), (false, .int a1)] rfl (ap_r (ap_c rfl ap_0)) (by decide +kernel) hst (al_of (aw_r (aw_i aw_0)) (by decide)) fun p e s m args below meth c X => V.sub (lv' := [(0, false, va_rf a0), (1, false, .int a1)]) [0, 1] rfl (vX1_worksFor X hf)
def fX1_doWorks_p100 (D : aD) (K30 : aH → (Option Nat) → Int32 → Int32 → Int32 → Option ((Nat ⊕ Int32) × aH)) (h : aH) (a0 : Option Nat) (a2 : Int32) (a3 : Int32) (a4 : Int32) : Option ((Nat ⊕ Int32) × aH) :=
  K30 h a0 a2 a3 (a4 + 1)
theorem vX1_doWorks_p100 {h : aH} {K30 : aH → (Option Nat) → Int32 → Int32 → Int32 → Option ((Nat ⊕ Int32) × aH)} {a0 : Option Nat} {a2 : Int32} {a3 : Int32} {a4 : Int32} {q : Nat ⊕ Int32} {g : aH} (X : aX p l R s m meth c D n0 s0 yX1_doWorks cX1_doWorks 16 3234 6 (some .int) h0) (k30 : ∀ (h : aH) (a0 : Option Nat) (a2 : Int32) (a3 : Int32) (a4 : Int32) (q : Nat ⊕ Int32) (g : aH), K30 h a0 a2 a3 a4 = some (q, g) → V p l e R s m args below meth c D n0 s0 (aEnd D below args s h0 (wI q, g)) h 30 [(0, false, va_rf a0), (2, false, .int a2), (3, false, .int a3), (4, false, .int a4)] []) (hf : fX1_doWorks_p100 D K30 h a0 a2 a3 a4 = some (q, g)) : V p l e R s m args below meth c D n0 s0 (aEnd D below args s h0 (wI q, g)) h 100 [(0, false, va_rf a0), (2, false, .int a2), (3, false, .int a3), (4, false, .int a4)] [] := by
  have C := X.1
  unfold fX1_doWorks_p100 at hf
  refine v_iinc (pc := 100) (j := 3) (v := (a4 + 1)) (lv' := [(4, false, .int (a4 + 1)), (0, false, va_rf a0), (2, false, .int a2), (3, false, .int a3)]) C dX1_doWorks_100 rfl rfl (by decide) rfl ?_
  refine v_goto (pc := 103) (tgt := 30) C dX1_doWorks_103 rfl ?_
  exact V.sub [1, 2, 3, 0] rfl (k30 _ _ _ _ _ _ _ hf)
def fX1_doWorks_p30 (D : aD) : Nat → aH → (Option Nat) → Int32 → Int32 → Int32 → Option ((Nat ⊕ Int32) × aH)
  | 0, _, _, _, _, _ => none
  | n + 1, h, a0, a2, a3, a4 =>
  (gR h 0 11 a0).bind fun x1 =>
  (aIs h 15 x1).bind fun _ =>
  (fJ2_size D h x1).bind fun x3 =>
  if x3 ≤ a4 then
  (some (.inr a3, h))
  else
  ((fX1_has_2 D h a2 a4).bind fun x6 =>
  if x6 = 0 then
  (fX1_doWorks_p100 D (fX1_doWorks_p30 D n) h a0 a2 a3 a4)
  else
  ((gR h 0 11 a0).bind fun x8 =>
  (aIs h 15 x8).bind fun _ =>
  (fJ2_get D h x8 a4).bind fun x10 =>
  (aCast h [13] x10).bind fun _ =>
  (pF D h 13 3 x10 (.int (1 : Int32))).bind fun h13 =>
  (gR h13 13 0 x10).bind fun x14 =>
  (gI h13 2 9 x14).bind fun x15 =>
  (gI h13 13 2 x10).bind fun x16 =>
  (pF D h13 2 9 x14 (.int (x15 + x16))).bind fun h17 =>
  (gI h17 13 1 x10).bind fun x18 =>
  (some ((a3 + x18))).bind fun x19 =>
  fX1_doWorks_p100 D (fX1_doWorks_p30 D n) h17 a0 a2 x19 a4))
theorem vX1_doWorks_p30 (X : aX p l R s m meth c D n0 s0 yX1_doWorks cX1_doWorks 16 3234 6 (some .int) h0) : ∀ (n : Nat) (h : aH) (a0 : Option Nat) (a2 : Int32) (a3 : Int32) (a4 : Int32) (q : Nat ⊕ Int32) (g : aH), fX1_doWorks_p30 D n h a0 a2 a3 a4 = some (q, g) → V p l e R s m args below meth c D n0 s0 (aEnd D below args s h0 (wI q, g)) h 30 [(0, false, va_rf a0), (2, false, .int a2), (3, false, .int a3), (4, false, .int a4)] [] := by
  have C := X.1
  intro n
  induction n with
  | zero =>
    intro _ _ _ _ _ _ _ hf
    rw [fX1_doWorks_p30] at hf
    cases hf
  | succ n ih =>
    intro h a0 a2 a3 a4 q g hf
    rw [fX1_doWorks_p30] at hf
    refine v_iload (pc := 30) (j := 3) C dX1_doWorks_30 rfl ?_
    refine v_aload_n (pc := 32) (j := 0) C dX1_doWorks_32 rfl rfl ?_
    obtain ⟨x1, ex1, hf⟩ := oB hf
    refine v_getF (pc := 33) C lk_X1_81 (gR_eq ex1) dX1_doWorks_33 ?_
    obtain ⟨b2, eb2, hf⟩ := oB hf
    obtain ⟨rb2, _, kb2⟩ := aIs_eq eb2
    obtain ⟨x3, ex3, hf⟩ := oB hf
    refine v_call (pc := 36) (d_V (pc := 36) C (As := []) (rest := [.int a4]) rb2 kb2 nt_15 q375 yi_J2_size_java_util_ArrayList yk_J2_size rfl (by decide) (by decide) (Nat.le_trans (aw_i aw_0) (by decide)) rfl (mJ2_size C.st ex3) dX1_doWorks_36) ?_
    refine v_icmp_ge (pc := 39) (tgt := 106) C dX1_doWorks_39 rfl (fun hc => ?_) (fun hc => ?_)
    · rw [if_pos hc] at hf
      refine v_iload_n (pc := 106) (j := 2) C dX1_doWorks_106 rfl rfl ?_
      cases hf
      exact v_ireturn (pc := 107) C X.2.1 X.2.2.1 X.2.2.2.1 rfl dX1_doWorks_107
    · rw [if_neg hc] at hf
      refine v_iload_n (pc := 42) (j := 1) C dX1_doWorks_42 rfl rfl ?_
      refine v_iload (pc := 43) (j := 3) C dX1_doWorks_43 rfl ?_
      obtain ⟨x6, ex6, hf⟩ := oB hf
      refine v_call (pc := 45) (d_S (pc := 45) C (As := [.int a2, .int a4]) (rest := []) q1251 q1244 yk_X1_has_2 rfl (by decide) (by decide) (Nat.le_trans aw_0 (by decide)) rfl (mX1_has_2 C.st ex6) dX1_doWorks_45) ?_
      refine v_if_ne (pc := 48) (tgt := 54) C dX1_doWorks_48 rfl (fun hc => ?_) (fun hc => ?_)
      · rw [if_neg hc] at hf
        refine v_aload_n (pc := 54) (j := 0) C dX1_doWorks_54 rfl rfl ?_
        obtain ⟨x8, ex8, hf⟩ := oB hf
        refine v_getF (pc := 55) C lk_X1_81 (gR_eq ex8) dX1_doWorks_55 ?_
        refine v_iload (pc := 58) (j := 3) C dX1_doWorks_58 rfl ?_
        obtain ⟨b9, eb9, hf⟩ := oB hf
        obtain ⟨rb9, _, kb9⟩ := aIs_eq eb9
        obtain ⟨x10, ex10, hf⟩ := oB hf
        refine v_call (pc := 60) (d_V (pc := 60) C (As := [.int a4]) (rest := []) rb9 kb9 nt_15 q379 yi_J2_get_java_util_ArrayList yk_J2_get rfl (by decide) (by decide) (Nat.le_trans aw_0 (by decide)) rfl (mJ2_get C.st ex10) dX1_doWorks_60) ?_
        obtain ⟨_, e12, hf⟩ := oB hf
        refine v_cast (pc := 63) C q2340 ct_FigureSurvey_Work e12 dX1_doWorks_63 ?_
        refine v_astore (pc := 66) (lv' := [(5, false, va_rf x10), (0, false, va_rf a0), (2, false, .int a2), (3, false, .int a3), (4, false, .int a4)]) C dX1_doWorks_66 (by decide) rfl ?_
        refine v_aload (pc := 68) (j := 0) C dX1_doWorks_68 rfl ?_
        refine v_iconst (pc := 70) (v := (1 : Int32)) C dX1_doWorks_70 rfl ?_
        obtain ⟨h13, eh13, hf⟩ := oB hf
        refine v_putF (pc := 71) C lk_X1_470 tyX14 tyX14_ok nmX14 (tyX14_ok 3 (by decide)) (nr_z (by decide)) (ft_z (by decide)) eh13 dX1_doWorks_71 ?_
        refine v_aload (pc := 74) (j := 0) C dX1_doWorks_74 rfl ?_
        obtain ⟨x14, ex14, hf⟩ := oB hf
        refine v_getF (pc := 76) C lk_X1_465 (gR_eq ex14) dX1_doWorks_76 ?_
        refine v_dup (pc := 79) C dX1_doWorks_79 (va_rfc _) ?_
        obtain ⟨x15, ex15, hf⟩ := oB hf
        refine v_getF (pc := 80) C lk_X1_479 (gI_eq ex15) dX1_doWorks_80 ?_
        refine v_aload (pc := 83) (j := 0) C dX1_doWorks_83 rfl ?_
        obtain ⟨x16, ex16, hf⟩ := oB hf
        refine v_getF (pc := 85) C lk_X1_463 (gI_eq ex16) dX1_doWorks_85 ?_
        refine v_iadd (pc := 88) C dX1_doWorks_88 ?_
        obtain ⟨h17, eh17, hf⟩ := oB hf
        refine v_putF (pc := 89) C lk_X1_479 tyX3 tyX3_ok nmX3 (tyX3_ok 9 (by decide)) rfl rfl eh17 dX1_doWorks_89 ?_
        refine v_iload_n (pc := 92) (j := 3) C dX1_doWorks_92 rfl rfl ?_
        refine v_aload (pc := 93) (j := 0) C dX1_doWorks_93 rfl ?_
        obtain ⟨x18, ex18, hf⟩ := oB hf
        refine v_getF (pc := 95) C lk_X1_473 (gI_eq ex18) dX1_doWorks_95 ?_
        refine v_iadd (pc := 98) C dX1_doWorks_98 ?_
        obtain ⟨x19, ex19, hf⟩ := oB hf
        refine vst (Option.some.inj ex19) (fun z => .int z :: []) ?_
        refine v_istore_n (pc := 99) (lv' := [(3, false, .int x19), (5, false, va_rf x10), (0, false, va_rf a0), (2, false, .int a2), (4, false, .int a4)]) C dX1_doWorks_99 rfl (by decide) rfl ?_
        exact V.sub [2, 3, 0, 4] rfl (vX1_doWorks_p100 X ih hf)
      · rw [if_pos (Decidable.of_not_not hc)] at hf
        refine v_goto (pc := 51) (tgt := 100) C dX1_doWorks_51 rfl ?_
        exact V.sub [0, 1, 2, 3] rfl (vX1_doWorks_p100 X ih hf)
def fX1_doWorks_p22 (D : aD) (h : aH) (a0 : Option Nat) (a2 : Int32) (t0 : Int32) : Option ((Nat ⊕ Int32) × aH) :=
  bndT (fX1_must D h t0) fun _ h3 =>
  fX1_doWorks_p30 D FU h3 a0 a2 (0 : Int32) (0 : Int32)
theorem vX1_doWorks_p22 {h : aH} {a0 : Option Nat} {a2 : Int32} {t0 : Int32} {q : Nat ⊕ Int32} {g : aH} (X : aX p l R s m meth c D n0 s0 yX1_doWorks cX1_doWorks 16 3234 6 (some .int) h0) (hf : fX1_doWorks_p22 D h a0 a2 t0 = some (q, g)) : V p l e R s m args below meth c D n0 s0 (aEnd D below args s h0 (wI q, g)) h 22 [(0, false, va_rf a0), (2, false, .int a2)] [.int t0] := by
  have C := X.1
  unfold fX1_doWorks_p22 at hf
  rcases bndT_eq hf with ⟨_, _, ex2, qx2⟩ | ⟨x2, h3, ex2, hf⟩
  · cases qx2; exact v_ofDx (pc := 22) C X.2.1 X.2.2.1 rfl X.2.2.2.2.1 (d_S (pc := 22) C (As := [.int t0]) (rest := []) q1595 q1596 yk_X1_must rfl (by decide) (by decide) (Nat.le_trans aw_0 (by decide)) rfl (mX1_must C.st ex2) dX1_doWorks_22)
  refine v_callU (pc := 22) (d_S (pc := 22) C (As := [.int t0]) (rest := []) q1595 q1596 yk_X1_must rfl (by decide) (by decide) (Nat.le_trans aw_0 (by decide)) rfl (mX1_must C.st ex2) dX1_doWorks_22) ?_
  refine v_iconst (pc := 25) (v := (0 : Int32)) C dX1_doWorks_25 rfl ?_
  refine v_istore_n (pc := 26) (lv' := [(3, false, .int (0 : Int32)), (0, false, va_rf a0), (2, false, .int a2)]) C dX1_doWorks_26 rfl (by decide) rfl ?_
  refine v_iconst (pc := 27) (v := (0 : Int32)) C dX1_doWorks_27 rfl ?_
  refine v_istore (pc := 28) (lv' := [(4, false, .int (0 : Int32)), (3, false, .int (0 : Int32)), (0, false, va_rf a0), (2, false, .int a2)]) C dX1_doWorks_28 (by decide) rfl ?_
  exact V.sub [2, 3, 1, 0] rfl (vX1_doWorks_p30 X _ _ _ _ _ _ _ _ hf)
def fX1_doWorks (D : aD) (h : aH) (a0 : Option Nat) (a1 : Int32) : Option ((Nat ⊕ Int32) × aH) :=
  bndT (fX1_in D h a1 (0 : Int32) (10000 : Int32)) fun x2 h3 =>
  (aIs h3 0 a0).bind fun _ =>
  bnd2 (fX1_chosen D h3 a0 x2) fun x5 h6 =>
  fX1_doWorks_p22 D h6 a0 x5 (if x5 = 0 then (0 : Int32) else (1 : Int32))
theorem vX1_doWorks {h : aH} {a0 : Option Nat} {a1 : Int32} {q : Nat ⊕ Int32} {g : aH} (X : aX p l R s m meth c D n0 s0 yX1_doWorks cX1_doWorks 16 3234 6 (some .int) h0) (hf : fX1_doWorks D h a0 a1 = some (q, g)) : V p l e R s m args below meth c D n0 s0 (aEnd D below args s h0 (wI q, g)) h 0 [(0, false, va_rf a0), (1, false, .int a1)] [] := by
  have C := X.1
  unfold fX1_doWorks at hf
  refine v_aload_n (pc := 0) (j := 0) C dX1_doWorks_0 rfl rfl ?_
  refine v_iload_n (pc := 1) (j := 1) C dX1_doWorks_1 rfl rfl ?_
  refine v_iconst (pc := 2) (v := (0 : Int32)) C dX1_doWorks_2 rfl ?_
  refine v_sipush (pc := 3) (v := (10000 : Int32)) C dX1_doWorks_3 rfl ?_
  rcases bndT_eq hf with ⟨_, _, ex2, qx2⟩ | ⟨x2, h3, ex2, hf⟩
  · cases qx2; exact v_ofDx (pc := 6) C X.2.1 X.2.2.1 rfl X.2.2.2.2.1 (d_S (pc := 6) C (As := [.int a1, .int (0 : Int32), .int (10000 : Int32)]) (rest := [va_rf a0]) q1578 q1579 yk_X1_in rfl (by decide) (by decide) (Nat.le_trans (aw_r aw_0) (by decide)) rfl (mX1_in C.st ex2) dX1_doWorks_6)
  refine v_call (pc := 6) (d_S (pc := 6) C (As := [.int a1, .int (0 : Int32), .int (10000 : Int32)]) (rest := [va_rf a0]) q1578 q1579 yk_X1_in rfl (by decide) (by decide) (Nat.le_trans (aw_r aw_0) (by decide)) rfl (mX1_in C.st ex2) dX1_doWorks_6) ?_
  obtain ⟨b4, eb4, hf⟩ := oB hf
  obtain ⟨rb4, _, kb4⟩ := aIs_eq eb4
  obtain ⟨x5, h6, ex5, hf⟩ := bnd2_eq hf
  refine v_call (pc := 9) (d_V (pc := 9) C (As := [.int x2]) (rest := []) rb4 kb4 nt_0 q2369 yi_X1_chosen_FigureSurvey yk_X1_chosen rfl (by decide) (by decide) (Nat.le_trans aw_0 (by decide)) rfl (mX1_chosen C.st ex5) dX1_doWorks_9) ?_
  refine v_istore_n (pc := 12) (lv' := [(2, false, .int x5), (0, false, va_rf a0), (1, false, .int a1)]) C dX1_doWorks_12 rfl (by decide) rfl ?_
  refine v_iload_n (pc := 13) (j := 0) C dX1_doWorks_13 rfl rfl ?_
  refine v_if_eq (pc := 14) (tgt := 21) C dX1_doWorks_14 rfl (fun hc => ?_) (fun hc => ?_)
  · simp only [if_pos hc] at hf
    refine v_iconst (pc := 21) (v := (0 : Int32)) C dX1_doWorks_21 rfl ?_
    exact V.sub [1, 0] rfl (vX1_doWorks_p22 X hf)
  · simp only [if_neg hc] at hf
    refine v_iconst (pc := 17) (v := (1 : Int32)) C dX1_doWorks_17 rfl ?_
    refine v_goto (pc := 18) (tgt := 22) C dX1_doWorks_18 rfl ?_
    exact V.sub [1, 0] rfl (vX1_doWorks_p22 X hf)
theorem mX1_doWorks {l : Launch} {D : aD} {h : aH} {a0 : Option Nat} {a1 : Int32} {q : Nat ⊕ Int32} {g : aH} (hst : l.stackTraces = false) (hf : fX1_doWorks D h a0 a1 = some (q, g)) : aM l D yX1_doWorks cX1_doWorks 6 (some .int) 16 3234 [va_rf a0, .int a1] h (wI q, g) :=
  aM.ofX [(false, va_rf a0), (false, .int a1)] rfl (ap_r (ap_c rfl ap_0)) (by decide +kernel) hst (al_of (aw_r (aw_i aw_0)) (by decide)) fun p e s m args below meth c X => V.sub (lv' := [(0, false, va_rf a0), (1, false, .int a1)]) [0, 1] rfl (vX1_doWorks X hf)
def fX1_count_L9_p22 (D : aD) (h : aH) (K4 : Int32 → (Option Nat) → Int32 → Int32 → Option (Int32)) (a0 : Int32) (a1 : Option Nat) (a2 : Int32) (a3 : Int32) : Option (Int32) :=
  K4 a0 a1 a2 (a3 + 1)
theorem vX1_count_L9_p22 {h : aH} {K4 : Int32 → (Option Nat) → Int32 → Int32 → Option (Int32)} {a0 : Int32} {a1 : Option Nat} {a2 : Int32} {a3 : Int32} {q : Int32} (X : aX p l R s m meth c D n0 s0 yX1_count cX1_count 5 106 4 (some .int) h0) (k4 : ∀ (a0 : Int32) (a1 : Option Nat) (a2 : Int32) (a3 : Int32) (q : Int32), K4 a0 a1 a2 a3 = some q → V p l e R s m args below meth c D n0 s0 (aEnd D below args s h0 (.inr (some (.int q)), h)) h 4 [(0, false, .int a0), (1, false, va_rf a1), (2, false, .int a2), (3, false, .int a3)] []) (hf : fX1_count_L9_p22 D h K4 a0 a1 a2 a3 = some q) : V p l e R s m args below meth c D n0 s0 (aEnd D below args s h0 (.inr (some (.int q)), h)) h 22 [(0, false, .int a0), (1, false, va_rf a1), (2, false, .int a2), (3, false, .int a3)] [] := by
  have C := X.1
  unfold fX1_count_L9_p22 at hf
  refine v_iinc (pc := 22) (j := 3) (v := (a3 + 1)) (lv' := [(3, false, .int (a3 + 1)), (0, false, .int a0), (1, false, va_rf a1), (2, false, .int a2)]) C dX1_count_22 rfl rfl (by decide) rfl ?_
  refine v_goto (pc := 25) (tgt := 4) C dX1_count_25 rfl ?_
  exact V.sub [1, 2, 3, 0] rfl (k4 _ _ _ _ _ hf)
def fX1_count_L9_p4 (D : aD) (h : aH) : Nat → Int32 → (Option Nat) → Int32 → Int32 → Option (Int32)
  | 0, _, _, _, _ => none
  | n + 1, a0, a1, a2, a3 =>
  if a0 ≤ a3 then
  (some a2)
  else
  (((aLam h 119 a1).bind lmA).bind fun c2 =>
  (aIs h 0 c2).bind fun _ =>
  (fX1_lambda_tellDam_3 D h c2 a3).bind fun x3 =>
  (ckZ x3).bind fun _ =>
  fX1_count_L9_p22 D h (fX1_count_L9_p4 D h n) a0 a1 (if x3 = 0 then a2 else (a2 + 1)) a3)
theorem vX1_count_L9_p4 {h : aH} (X : aX p l R s m meth c D n0 s0 yX1_count cX1_count 5 106 4 (some .int) h0) : ∀ (n : Nat) (a0 : Int32) (a1 : Option Nat) (a2 : Int32) (a3 : Int32) (q : Int32), fX1_count_L9_p4 D h n a0 a1 a2 a3 = some q → V p l e R s m args below meth c D n0 s0 (aEnd D below args s h0 (.inr (some (.int q)), h)) h 4 [(0, false, .int a0), (1, false, va_rf a1), (2, false, .int a2), (3, false, .int a3)] [] := by
  have C := X.1
  intro n
  induction n with
  | zero =>
    intro _ _ _ _ _ hf
    rw [fX1_count_L9_p4] at hf
    cases hf
  | succ n ih =>
    intro a0 a1 a2 a3 q hf
    rw [fX1_count_L9_p4] at hf
    refine v_iload_n (pc := 4) (j := 3) C dX1_count_4 rfl rfl ?_
    refine v_iload_n (pc := 5) (j := 0) C dX1_count_5 rfl rfl ?_
    refine v_icmp_ge (pc := 6) (tgt := 28) C dX1_count_6 rfl (fun hc => ?_) (fun hc => ?_)
    · rw [if_pos hc] at hf
      refine v_iload_n (pc := 28) (j := 2) C dX1_count_28 rfl rfl ?_
      cases hf
      exact v_ireturn (pc := 29) C X.2.1 X.2.2.1 X.2.2.2.1 rfl dX1_count_29
    · rw [if_neg hc] at hf
      refine v_aload_n (pc := 9) (j := 1) C dX1_count_9 rfl rfl ?_
      refine v_iload_n (pc := 10) (j := 3) C dX1_count_10 rfl rfl ?_
      obtain ⟨c2, eb1, hf⟩ := oB hf
      obtain ⟨b1, rb1, kb1⟩ := lmA_eq eb1
      obtain ⟨db1, fb1, hf⟩ := oB hf
      obtain ⟨rfl, _, gb1⟩ := aIs_eq fb1
      obtain ⟨x3, ex3, hf⟩ := oB hf
      obtain ⟨_, zx3, hf⟩ := oB hf
      refine v_call (pc := 11) (d_L (pc := 11) C (k := 9) (xs := [a3]) (As := [.int a3]) (rest := []) lkS_9 lok_9 (by decide +kernel) ⟨rfl, rfl, by decide +kernel⟩ q598 q600 ⟨q599, ⟨by decide +kernel, by decide +kernel⟩⟩ (show (parseMethodDescriptor "(I)Z").map (fun d => d.parameters.length) = some 1 by decide +kernel) rb1 kb1 rfl rfl (hWalkV lDec_9 (show 1 ≤ 3 by decide) (by decide) kb1 rfl gb1 nt_0 yi_X1_lambda_tellDam_3_FigureSurvey yk_X1_lambda_tellDam_3 rfl (mX1_lambda_tellDam_3 C.st ex3) (Or.inr ⟨rfl, ckZ_eq zx3⟩)) (by decide) (by decide) (Nat.le_trans aw_0 (by decide)) rfl dX1_count_11) ?_
      refine v_if_eq (pc := 16) (tgt := 22) C dX1_count_16 rfl (fun hc => ?_) (fun hc => ?_)
      · simp only [if_pos hc] at hf
        exact V.sub [0, 1, 2, 3] rfl (vX1_count_L9_p22 X ih hf)
      · simp only [if_neg hc] at hf
        refine v_iinc (pc := 19) (j := 2) (v := (a2 + 1)) (lv' := [(2, false, .int (a2 + 1)), (0, false, .int a0), (1, false, va_rf a1), (3, false, .int a3)]) C dX1_count_19 rfl rfl (by decide) rfl ?_
        exact V.sub [1, 2, 0, 3] rfl (vX1_count_L9_p22 X ih hf)
def fX1_count_L9 (D : aD) (h : aH) (a0 : Int32) (a1 : Option Nat) : Option (Int32) :=
  fX1_count_L9_p4 D h FU a0 a1 (0 : Int32) (0 : Int32)
theorem vX1_count_L9 {h : aH} {a0 : Int32} {a1 : Option Nat} {q : Int32} (X : aX p l R s m meth c D n0 s0 yX1_count cX1_count 5 106 4 (some .int) h0) (hf : fX1_count_L9 D h a0 a1 = some q) : V p l e R s m args below meth c D n0 s0 (aEnd D below args s h0 (.inr (some (.int q)), h)) h 0 [(0, false, .int a0), (1, false, va_rf a1)] [] := by
  have C := X.1
  unfold fX1_count_L9 at hf
  refine v_iconst (pc := 0) (v := (0 : Int32)) C dX1_count_0 rfl ?_
  refine v_istore_n (pc := 1) (lv' := [(2, false, .int (0 : Int32)), (0, false, .int a0), (1, false, va_rf a1)]) C dX1_count_1 rfl (by decide) rfl ?_
  refine v_iconst (pc := 2) (v := (0 : Int32)) C dX1_count_2 rfl ?_
  refine v_istore_n (pc := 3) (lv' := [(3, false, .int (0 : Int32)), (2, false, .int (0 : Int32)), (0, false, .int a0), (1, false, va_rf a1)]) C dX1_count_3 rfl (by decide) rfl ?_
  exact V.sub [2, 3, 1, 0] rfl (vX1_count_L9_p4 X _ _ _ _ _ _ hf)
theorem mX1_count_L9 {l : Launch} {D : aD} {h : aH} {a0 : Int32} {a1 : Option Nat} {q : Int32} (hst : l.stackTraces = false) (hf : fX1_count_L9 D h a0 a1 = some q) : aM l D yX1_count cX1_count 4 (some .int) 5 106 [.int a0, va_rf a1] h (.inr (some (.int q)), h) :=
  aM.ofX [(false, .int a0), (false, va_rf a1)] rfl (ap_c rfl (ap_r ap_0)) (by decide +kernel) hst (al_of (aw_i (aw_r aw_0)) (by decide)) fun p e s m args below meth c X => V.sub (lv' := [(0, false, .int a0), (1, false, va_rf a1)]) [0, 1] rfl (vX1_count_L9 X hf)
def fX1_tellDam_p36 (D : aD) (h : aH) (a0 : Option Nat) (a1 : Int32) (a2 : Int32) (t0 : Int32) : Option ((Nat ⊕ Int32) × aH) :=
  bndT (fX1_must D h t0) fun _ h3 =>
  (pF D h3 0 14 a0 (.int a1)).bind fun h4 =>
  (pF D h4 0 15 a0 (.int a2)).bind fun h5 =>
  (gR h5 0 1 a0).bind fun x6 =>
  (aIs h5 15 x6).bind fun _ =>
  (fJ2_size D h5 x6).bind fun x8 =>
  (aMk D h5 (119, [va_rf a0])).bind fun h10 =>
  (fX1_count_L9 D h10 x8 (some h5.1)).bind fun x12 =>
  some (.inr x12, h10)
theorem vX1_tellDam_p36 {h : aH} {a0 : Option Nat} {a1 : Int32} {a2 : Int32} {t0 : Int32} {q : Nat ⊕ Int32} {g : aH} (X : aX p l R s m meth c D n0 s0 yX1_tellDam cX1_tellDam 7 3074 3 (some .int) h0) (hf : fX1_tellDam_p36 D h a0 a1 a2 t0 = some (q, g)) : V p l e R s m args below meth c D n0 s0 (aEnd D below args s h0 (wI q, g)) h 36 [(0, false, va_rf a0), (1, false, .int a1), (2, false, .int a2)] [.int t0] := by
  have C := X.1
  unfold fX1_tellDam_p36 at hf
  rcases bndT_eq hf with ⟨_, _, ex2, qx2⟩ | ⟨x2, h3, ex2, hf⟩
  · cases qx2; exact v_ofDx (pc := 36) C X.2.1 X.2.2.1 rfl X.2.2.2.2.1 (d_S (pc := 36) C (As := [.int t0]) (rest := []) q1595 q1596 yk_X1_must rfl (by decide) (by decide) (Nat.le_trans aw_0 (by decide)) rfl (mX1_must C.st ex2) dX1_tellDam_36)
  refine v_callU (pc := 36) (d_S (pc := 36) C (As := [.int t0]) (rest := []) q1595 q1596 yk_X1_must rfl (by decide) (by decide) (Nat.le_trans aw_0 (by decide)) rfl (mX1_must C.st ex2) dX1_tellDam_36) ?_
  refine v_aload_n (pc := 39) (j := 0) C dX1_tellDam_39 rfl rfl ?_
  refine v_iload_n (pc := 40) (j := 1) C dX1_tellDam_40 rfl rfl ?_
  obtain ⟨h4, eh4, hf⟩ := oB hf
  refine v_putF (pc := 41) C lk_X1_109 tyX1 tyX1_ok nmX1 (tyX1_ok 14 (by decide)) rfl rfl eh4 dX1_tellDam_41 ?_
  refine v_aload_n (pc := 44) (j := 0) C dX1_tellDam_44 rfl rfl ?_
  refine v_iload_n (pc := 45) (j := 2) C dX1_tellDam_45 rfl rfl ?_
  obtain ⟨h5, eh5, hf⟩ := oB hf
  refine v_putF (pc := 46) C lk_X1_84 tyX1 tyX1_ok nmX1 (tyX1_ok 15 (by decide)) rfl rfl eh5 dX1_tellDam_46 ?_
  refine v_aload_n (pc := 49) (j := 0) C dX1_tellDam_49 rfl rfl ?_
  obtain ⟨x6, ex6, hf⟩ := oB hf
  refine v_getF (pc := 50) C lk_X1_49 (gR_eq ex6) dX1_tellDam_50 ?_
  obtain ⟨b7, eb7, hf⟩ := oB hf
  obtain ⟨rb7, _, kb7⟩ := aIs_eq eb7
  obtain ⟨x8, ex8, hf⟩ := oB hf
  refine v_call (pc := 53) (d_V (pc := 53) C (As := []) (rest := []) rb7 kb7 nt_15 q375 yi_J2_size_java_util_ArrayList yk_J2_size rfl (by decide) (by decide) (Nat.le_trans aw_0 (by decide)) rfl (mJ2_size C.st ex8) dX1_tellDam_53) ?_
  refine v_aload_n (pc := 56) (j := 0) C dX1_tellDam_56 rfl rfl ?_
  obtain ⟨h10, eh10, hf⟩ := oB hf
  refine v_lam (pc := 57) (k := 9) (vals := [va_rf a0]) (rest := [.int x8]) C X.2.2.2.2.2.2 lkS_9 lok_9 rfl (lvl_c rfl ft_o lvl_0) rfl eh10 (Nat.le_trans (Nat.add_le_add_right (aw_r (aw_i aw_0)) _) (by decide)) dX1_tellDam_57 ?_
  obtain ⟨x12, ex12, hf⟩ := oB hf
  refine v_call (pc := 62) (d_S (pc := 62) C (As := [.int x8, va_rf (some h5.1)]) (rest := []) q601 q595 yk_X1_count rfl (by decide) (by decide) (Nat.le_trans aw_0 (by decide)) rfl (mX1_count_L9 C.st ex12) dX1_tellDam_62) ?_
  cases hf
  exact v_ireturn (pc := 65) C X.2.1 X.2.2.1 X.2.2.2.1 rfl dX1_tellDam_65
def fX1_tellDam (D : aD) (h : aH) (a0 : Option Nat) (a1 : Int32) (a2 : Int32) : Option ((Nat ⊕ Int32) × aH) :=
  bndT (fX1_in D h a1 (0 : Int32) (1001 : Int32)) fun x2 h3 =>
  (gI h3 0 13 a0).bind fun x4 =>
  bndT (fX1_in D h3 a2 (x4 + (1 : Int32)) (200 : Int32)) fun x6 h7 =>
  (gI h7 0 15 a0).bind fun x8 =>
  fX1_tellDam_p36 D h7 a0 a1 a2 (if x8 = (-1 : Int32) then (1 : Int32) else (0 : Int32))
theorem vX1_tellDam {h : aH} {a0 : Option Nat} {a1 : Int32} {a2 : Int32} {q : Nat ⊕ Int32} {g : aH} (X : aX p l R s m meth c D n0 s0 yX1_tellDam cX1_tellDam 7 3074 3 (some .int) h0) (hf : fX1_tellDam D h a0 a1 a2 = some (q, g)) : V p l e R s m args below meth c D n0 s0 (aEnd D below args s h0 (wI q, g)) h 0 [(0, false, va_rf a0), (1, false, .int a1), (2, false, .int a2)] [] := by
  have C := X.1
  unfold fX1_tellDam at hf
  refine v_iload_n (pc := 0) (j := 1) C dX1_tellDam_0 rfl rfl ?_
  refine v_iconst (pc := 1) (v := (0 : Int32)) C dX1_tellDam_1 rfl ?_
  refine v_sipush (pc := 2) (v := (1001 : Int32)) C dX1_tellDam_2 rfl ?_
  rcases bndT_eq hf with ⟨_, _, ex2, qx2⟩ | ⟨x2, h3, ex2, hf⟩
  · cases qx2; exact v_ofDx (pc := 5) C X.2.1 X.2.2.1 rfl X.2.2.2.2.1 (d_S (pc := 5) C (As := [.int a1, .int (0 : Int32), .int (1001 : Int32)]) (rest := []) q1578 q1579 yk_X1_in rfl (by decide) (by decide) (Nat.le_trans aw_0 (by decide)) rfl (mX1_in C.st ex2) dX1_tellDam_5)
  refine v_call (pc := 5) (d_S (pc := 5) C (As := [.int a1, .int (0 : Int32), .int (1001 : Int32)]) (rest := []) q1578 q1579 yk_X1_in rfl (by decide) (by decide) (Nat.le_trans aw_0 (by decide)) rfl (mX1_in C.st ex2) dX1_tellDam_5) ?_
  refine v_pop (pc := 8) C dX1_tellDam_8 rfl ?_
  refine v_iload_n (pc := 9) (j := 2) C dX1_tellDam_9 rfl rfl ?_
  refine v_aload_n (pc := 10) (j := 0) C dX1_tellDam_10 rfl rfl ?_
  obtain ⟨x4, ex4, hf⟩ := oB hf
  refine v_getF (pc := 11) C lk_X1_116 (gI_eq ex4) dX1_tellDam_11 ?_
  refine v_iconst (pc := 14) (v := (1 : Int32)) C dX1_tellDam_14 rfl ?_
  refine v_iadd (pc := 15) C dX1_tellDam_15 ?_
  refine v_sipush (pc := 16) (v := (200 : Int32)) C dX1_tellDam_16 rfl ?_
  rcases bndT_eq hf with ⟨_, _, ex6, qx6⟩ | ⟨x6, h7, ex6, hf⟩
  · cases qx6; exact v_ofDx (pc := 19) C X.2.1 X.2.2.1 rfl X.2.2.2.2.1 (d_S (pc := 19) C (As := [.int a2, .int (x4 + (1 : Int32)), .int (200 : Int32)]) (rest := []) q1578 q1579 yk_X1_in rfl (by decide) (by decide) (Nat.le_trans aw_0 (by decide)) rfl (mX1_in C.st ex6) dX1_tellDam_19)
  refine v_call (pc := 19) (d_S (pc := 19) C (As := [.int a2, .int (x4 + (1 : Int32)), .int (200 : Int32)]) (rest := []) q1578 q1579 yk_X1_in rfl (by decide) (by decide) (Nat.le_trans aw_0 (by decide)) rfl (mX1_in C.st ex6) dX1_tellDam_19) ?_
  refine v_pop (pc := 22) C dX1_tellDam_22 rfl ?_
  refine v_aload_n (pc := 23) (j := 0) C dX1_tellDam_23 rfl rfl ?_
  obtain ⟨x8, ex8, hf⟩ := oB hf
  refine v_getF (pc := 24) C lk_X1_84 (gI_eq ex8) dX1_tellDam_24 ?_
  refine v_iconst (pc := 27) (v := (-1 : Int32)) C dX1_tellDam_27 rfl ?_
  refine v_icmp_ne (pc := 28) (tgt := 35) C dX1_tellDam_28 rfl (fun hc => ?_) (fun hc => ?_)
  · simp only [if_neg hc] at hf
    refine v_iconst (pc := 35) (v := (0 : Int32)) C dX1_tellDam_35 rfl ?_
    exact V.sub [0, 1, 2] rfl (vX1_tellDam_p36 X hf)
  · simp only [if_pos (Decidable.of_not_not hc)] at hf
    refine v_iconst (pc := 31) (v := (1 : Int32)) C dX1_tellDam_31 rfl ?_
    refine v_goto (pc := 32) (tgt := 36) C dX1_tellDam_32 rfl ?_
    exact V.sub [0, 1, 2] rfl (vX1_tellDam_p36 X hf)
theorem mX1_tellDam {l : Launch} {D : aD} {h : aH} {a0 : Option Nat} {a1 : Int32} {a2 : Int32} {q : Nat ⊕ Int32} {g : aH} (hst : l.stackTraces = false) (hf : fX1_tellDam D h a0 a1 a2 = some (q, g)) : aM l D yX1_tellDam cX1_tellDam 3 (some .int) 7 3074 [va_rf a0, .int a1, .int a2] h (wI q, g) :=
  aM.ofX [(false, va_rf a0), (false, .int a1), (false, .int a2)] rfl (ap_r (ap_c rfl (ap_c rfl ap_0))) (by decide +kernel) hst (al_of (aw_r (aw_i (aw_i aw_0))) (by decide)) fun p e s m args below meth c X => V.sub (lv' := [(0, false, va_rf a0), (1, false, .int a1), (2, false, .int a2)]) [0, 1, 2] rfl (vX1_tellDam X hf)
def fX0_seen (D : aD) (h : aH) (a0 : Option Nat) (a1 : Int32) (a2 : Int32) (a3 : Option Nat) : Option (Int32 × aH) :=
  (aIs h 0 a0).bind fun _ =>
  bndW (fX1_seen D h a0 a1 a2) (fun k => if k = 1 then some (1 : Int32) else if k = 2 then some (2 : Int32) else none) fun x2 h3 =>
  (sF D h3 101 a3 (0 : Int32) (.long x2.toInt64)).bind fun h4 =>
  some ((0 : Int32), h4)
theorem vX0_seen {h : aH} {a0 : Option Nat} {a1 : Int32} {a2 : Int32} {a3 : Option Nat} {q : Int32} {g : aH} (X : aXw p l R s m meth c D n0 s0 yX0_seen cX0_seen 9 3119 5 [(0, 10, 13, 21), (0, 10, 17, 13)] h) (hf : fX0_seen D h a0 a1 a2 a3 = some (q, g)) : V p l e R s m args below meth c D n0 s0 (aEndw D below args s h q g) h 0 [(0, false, va_rf a0), (1, false, .int a1), (2, false, .int a2), (3, false, va_rf a3)] [] := by
  have C := X.1
  unfold fX0_seen at hf
  refine v_aload_n (pc := 0) (j := 3) C dX0_seen_0 rfl rfl ?_
  refine v_iconst (pc := 1) (v := (0 : Int32)) C dX0_seen_1 rfl ?_
  refine v_aload_n (pc := 2) (j := 0) C dX0_seen_2 rfl rfl ?_
  refine v_iload_n (pc := 3) (j := 1) C dX0_seen_3 rfl rfl ?_
  refine v_iload_n (pc := 4) (j := 2) C dX0_seen_4 rfl rfl ?_
  obtain ⟨b1, eb1, hf⟩ := oB hf
  obtain ⟨rb1, _, kb1⟩ := aIs_eq eb1
  rcases bndW_eq hf with ⟨kx2, cx2, gx2, ex2, hk, qx2⟩ | ⟨x2, h3, ex2, hf⟩
  · cases qx2
    by_cases k1 : kx2 = 1
    · subst k1
      rw [if_pos rfl] at hk
      cases hk
      exact v_ofDc (pc := 5) (ek := 1) X [] [(0, 10, 17, 13)] rfl (fun _ hz => by cases hz) (by decide) (by decide) q1677 q1714 ⟨4, 2, 1, by decide, Or.inl ⟨dX0_seen_13, rfl⟩, dX0_seen_15, rfl, dX0_seen_16⟩ (Nat.le_refl _) (Nat.le_refl _) (d_V (pc := 5) C (As := [.int a1, .int a2]) (rest := [.int (0 : Int32), va_rf a3]) rb1 kb1 nt_0 q1735 yi_X1_seen_FigureSurvey yk_X1_seen rfl (by decide) (by decide) (Nat.le_trans (aw_i (aw_r aw_0)) (by decide)) rfl (mX1_seen C.st ex2) dX0_seen_5)
    rw [if_neg k1] at hk
    by_cases k2 : kx2 = 2
    · subst k2
      rw [if_pos rfl] at hk
      cases hk
      exact v_ofDc (pc := 5) (ek := 2) X [(0, 10, 13, 21)] [] rfl (List.forall_mem_cons.mpr ⟨⟨by decide, _, q1677, by decide +kernel⟩, fun _ hz => by cases hz⟩) (by decide) (by decide) q1572 q294 ⟨4, 2, 2, by decide, Or.inl ⟨dX0_seen_17, rfl⟩, dX0_seen_19, rfl, dX0_seen_20⟩ (Nat.le_refl _) (Nat.le_refl _) (d_V (pc := 5) C (As := [.int a1, .int a2]) (rest := [.int (0 : Int32), va_rf a3]) rb1 kb1 nt_0 q1735 yi_X1_seen_FigureSurvey yk_X1_seen rfl (by decide) (by decide) (Nat.le_trans (aw_i (aw_r aw_0)) (by decide)) rfl (mX1_seen C.st ex2) dX0_seen_5)
    rw [if_neg k2] at hk
    cases hk
  refine v_call (pc := 5) (d_V (pc := 5) C (As := [.int a1, .int a2]) (rest := [.int (0 : Int32), va_rf a3]) rb1 kb1 nt_0 q1735 yi_X1_seen_FigureSurvey yk_X1_seen rfl (by decide) (by decide) (Nat.le_trans (aw_i (aw_r aw_0)) (by decide)) rfl (mX1_seen C.st ex2) dX0_seen_5) ?_
  refine v_i2l (pc := 8) C dX0_seen_8 ?_
  obtain ⟨h4, eh4, hf⟩ := oB hf
  refine v_lastore (pc := 9) C eh4 dX0_seen_9 ?_
  refine v_goto (pc := 10) (tgt := 21) C dX0_seen_10 rfl ?_
  refine v_iconst (pc := 21) (v := (0 : Int32)) C dX0_seen_21 rfl ?_
  cases hf
  exact v_wret (pc := 22) X dX0_seen_22
theorem mX0_seen {l : Launch} {D : aD} {h : aH} {a0 : Option Nat} {a1 : Int32} {a2 : Int32} {a3 : Option Nat} {q : Int32} {g : aH} (hst : l.stackTraces = false) (hf : fX0_seen D h a0 a1 a2 a3 = some (q, g)) : aMw l D yX0_seen cX0_seen 5 [(0, 10, 13, 21), (0, 10, 17, 13)] 9 3119 [va_rf a0, .int a1, .int a2, va_rf a3] h q g :=
  aMw.of [(false, va_rf a0), (false, .int a1), (false, .int a2), (false, va_rf a3)] rfl (ap_r (ap_c rfl (ap_c rfl (ap_r ap_0)))) (by decide +kernel) hst (al_of (aw_r (aw_i (aw_i (aw_r aw_0)))) (by decide)) fun p e s m args below meth c X => V.sub (lv' := [(0, false, va_rf a0), (1, false, .int a1), (2, false, .int a2), (3, false, va_rf a3)]) [0, 1, 2, 3] rfl (vX0_seen X hf)
def fX0_edges (D : aD) (h : aH) (a0 : Option Nat) (a1 : Int32) (a2 : Int32) (a3 : Option Nat) : Option (Int32 × aH) :=
  (aIs h 0 a0).bind fun _ =>
  bndW (fX1_edges D h a0 a1 a2) (fun k => if k = 1 then some (1 : Int32) else if k = 2 then some (2 : Int32) else none) fun x2 h3 =>
  (sF D h3 101 a3 (0 : Int32) (.long x2)).bind fun h4 =>
  some ((0 : Int32), h4)
theorem vX0_edges {h : aH} {a0 : Option Nat} {a1 : Int32} {a2 : Int32} {a3 : Option Nat} {q : Int32} {g : aH} (X : aXw p l R s m meth c D n0 s0 yX0_edges cX0_edges 9 3143 5 [(0, 9, 12, 21), (0, 9, 16, 13)] h) (hf : fX0_edges D h a0 a1 a2 a3 = some (q, g)) : V p l e R s m args below meth c D n0 s0 (aEndw D below args s h q g) h 0 [(0, false, va_rf a0), (1, false, .int a1), (2, false, .int a2), (3, false, va_rf a3)] [] := by
  have C := X.1
  unfold fX0_edges at hf
  refine v_aload_n (pc := 0) (j := 3) C dX0_edges_0 rfl rfl ?_
  refine v_iconst (pc := 1) (v := (0 : Int32)) C dX0_edges_1 rfl ?_
  refine v_aload_n (pc := 2) (j := 0) C dX0_edges_2 rfl rfl ?_
  refine v_iload_n (pc := 3) (j := 1) C dX0_edges_3 rfl rfl ?_
  refine v_iload_n (pc := 4) (j := 2) C dX0_edges_4 rfl rfl ?_
  obtain ⟨b1, eb1, hf⟩ := oB hf
  obtain ⟨rb1, _, kb1⟩ := aIs_eq eb1
  rcases bndW_eq hf with ⟨kx2, cx2, gx2, ex2, hk, qx2⟩ | ⟨x2, h3, ex2, hf⟩
  · cases qx2
    by_cases k1 : kx2 = 1
    · subst k1
      rw [if_pos rfl] at hk
      cases hk
      exact v_ofDc (pc := 5) (ek := 1) X [] [(0, 9, 16, 13)] rfl (fun _ hz => by cases hz) (by decide) (by decide) q1677 q1714 ⟨4, 2, 1, by decide, Or.inl ⟨dX0_edges_12, rfl⟩, dX0_edges_14, rfl, dX0_edges_15⟩ (Nat.le_refl _) (Nat.le_refl _) (d_V (pc := 5) C (As := [.int a1, .int a2]) (rest := [.int (0 : Int32), va_rf a3]) rb1 kb1 nt_0 q1756 yi_X1_edges_FigureSurvey yk_X1_edges rfl (by decide) (by decide) (Nat.le_trans (aw_i (aw_r aw_0)) (by decide)) rfl (mX1_edges C.st ex2) dX0_edges_5)
    rw [if_neg k1] at hk
    by_cases k2 : kx2 = 2
    · subst k2
      rw [if_pos rfl] at hk
      cases hk
      exact v_ofDc (pc := 5) (ek := 2) X [(0, 9, 12, 21)] [] rfl (List.forall_mem_cons.mpr ⟨⟨by decide, _, q1677, by decide +kernel⟩, fun _ hz => by cases hz⟩) (by decide) (by decide) q1572 q294 ⟨4, 2, 2, by decide, Or.inl ⟨dX0_edges_16, rfl⟩, dX0_edges_18, rfl, dX0_edges_19⟩ (Nat.le_refl _) (Nat.le_refl _) (d_V (pc := 5) C (As := [.int a1, .int a2]) (rest := [.int (0 : Int32), va_rf a3]) rb1 kb1 nt_0 q1756 yi_X1_edges_FigureSurvey yk_X1_edges rfl (by decide) (by decide) (Nat.le_trans (aw_i (aw_r aw_0)) (by decide)) rfl (mX1_edges C.st ex2) dX0_edges_5)
    rw [if_neg k2] at hk
    cases hk
  refine v_call (pc := 5) (d_V (pc := 5) C (As := [.int a1, .int a2]) (rest := [.int (0 : Int32), va_rf a3]) rb1 kb1 nt_0 q1756 yi_X1_edges_FigureSurvey yk_X1_edges rfl (by decide) (by decide) (Nat.le_trans (aw_i (aw_r aw_0)) (by decide)) rfl (mX1_edges C.st ex2) dX0_edges_5) ?_
  obtain ⟨h4, eh4, hf⟩ := oB hf
  refine v_lastore (pc := 8) C eh4 dX0_edges_8 ?_
  refine v_goto (pc := 9) (tgt := 20) C dX0_edges_9 rfl ?_
  refine v_iconst (pc := 20) (v := (0 : Int32)) C dX0_edges_20 rfl ?_
  cases hf
  exact v_wret (pc := 21) X dX0_edges_21
theorem mX0_edges {l : Launch} {D : aD} {h : aH} {a0 : Option Nat} {a1 : Int32} {a2 : Int32} {a3 : Option Nat} {q : Int32} {g : aH} (hst : l.stackTraces = false) (hf : fX0_edges D h a0 a1 a2 a3 = some (q, g)) : aMw l D yX0_edges cX0_edges 5 [(0, 9, 12, 21), (0, 9, 16, 13)] 9 3143 [va_rf a0, .int a1, .int a2, va_rf a3] h q g :=
  aMw.of [(false, va_rf a0), (false, .int a1), (false, .int a2), (false, va_rf a3)] rfl (ap_r (ap_c rfl (ap_c rfl (ap_r ap_0)))) (by decide +kernel) hst (al_of (aw_r (aw_i (aw_i (aw_r aw_0)))) (by decide)) fun p e s m args below meth c X => V.sub (lv' := [(0, false, va_rf a0), (1, false, .int a1), (2, false, .int a2), (3, false, va_rf a3)]) [0, 1, 2, 3] rfl (vX0_edges X hf)
def fX0_addFigure (D : aD) (h : aH) (a0 : Option Nat) (a1 : Int32) (a2 : Option Nat) : Option (Int32 × aH) :=
  (aIs h 0 a0).bind fun _ =>
  bndW (fX1_addFigure D h a0 a1) (fun k => if k = 1 then some (1 : Int32) else if k = 3 then some (2 : Int32) else none) fun x2 h3 =>
  (sF D h3 101 a2 (0 : Int32) (.long x2.toInt64)).bind fun h4 =>
  some ((0 : Int32), h4)
theorem vX0_addFigure {h : aH} {a0 : Option Nat} {a1 : Int32} {a2 : Option Nat} {q : Int32} {g : aH} (X : aXw p l R s m meth c D n0 s0 yX0_addFigure cX0_addFigure 9 3097 4 [(0, 9, 12, 21), (0, 9, 15, 15)] h) (hf : fX0_addFigure D h a0 a1 a2 = some (q, g)) : V p l e R s m args below meth c D n0 s0 (aEndw D below args s h q g) h 0 [(0, false, va_rf a0), (1, false, .int a1), (2, false, va_rf a2)] [] := by
  have C := X.1
  unfold fX0_addFigure at hf
  refine v_aload_n (pc := 0) (j := 2) C dX0_addFigure_0 rfl rfl ?_
  refine v_iconst (pc := 1) (v := (0 : Int32)) C dX0_addFigure_1 rfl ?_
  refine v_aload_n (pc := 2) (j := 0) C dX0_addFigure_2 rfl rfl ?_
  refine v_iload_n (pc := 3) (j := 1) C dX0_addFigure_3 rfl rfl ?_
  obtain ⟨b1, eb1, hf⟩ := oB hf
  obtain ⟨rb1, _, kb1⟩ := aIs_eq eb1
  rcases bndW_eq hf with ⟨kx2, cx2, gx2, ex2, hk, qx2⟩ | ⟨x2, h3, ex2, hf⟩
  · cases qx2
    by_cases k1 : kx2 = 1
    · subst k1
      rw [if_pos rfl] at hk
      cases hk
      exact v_ofDc (pc := 4) (ek := 1) X [] [(0, 9, 15, 15)] rfl (fun _ hz => by cases hz) (by decide) (by decide) q1677 q1714 ⟨3, 1, 1, by decide, Or.inr ⟨3, rfl, dX0_addFigure_12, rfl⟩, dX0_addFigure_13, rfl, dX0_addFigure_14⟩ (Nat.le_refl _) (Nat.le_refl _) (d_V (pc := 4) C (As := [.int a1]) (rest := [.int (0 : Int32), va_rf a2]) rb1 kb1 nt_0 q1798 yi_X1_addFigure_FigureSurvey yk_X1_addFigure rfl (by decide) (by decide) (Nat.le_trans (aw_i (aw_r aw_0)) (by decide)) rfl (mX1_addFigure C.st ex2) dX0_addFigure_4)
    rw [if_neg k1] at hk
    by_cases k3 : kx2 = 3
    · subst k3
      rw [if_pos rfl] at hk
      cases hk
      exact v_ofDc (pc := 4) (ek := 3) X [(0, 9, 12, 21)] [] rfl (List.forall_mem_cons.mpr ⟨⟨by decide, _, q1677, by decide +kernel⟩, fun _ hz => by cases hz⟩) (by decide) (by decide) q1573 q1600 ⟨3, 1, 2, by decide, Or.inr ⟨3, rfl, dX0_addFigure_15, rfl⟩, dX0_addFigure_16, rfl, dX0_addFigure_17⟩ (Nat.le_refl _) (Nat.le_refl _) (d_V (pc := 4) C (As := [.int a1]) (rest := [.int (0 : Int32), va_rf a2]) rb1 kb1 nt_0 q1798 yi_X1_addFigure_FigureSurvey yk_X1_addFigure rfl (by decide) (by decide) (Nat.le_trans (aw_i (aw_r aw_0)) (by decide)) rfl (mX1_addFigure C.st ex2) dX0_addFigure_4)
    rw [if_neg k3] at hk
    cases hk
  refine v_call (pc := 4) (d_V (pc := 4) C (As := [.int a1]) (rest := [.int (0 : Int32), va_rf a2]) rb1 kb1 nt_0 q1798 yi_X1_addFigure_FigureSurvey yk_X1_addFigure rfl (by decide) (by decide) (Nat.le_trans (aw_i (aw_r aw_0)) (by decide)) rfl (mX1_addFigure C.st ex2) dX0_addFigure_4) ?_
  refine v_i2l (pc := 7) C dX0_addFigure_7 ?_
  obtain ⟨h4, eh4, hf⟩ := oB hf
  refine v_lastore (pc := 8) C eh4 dX0_addFigure_8 ?_
  refine v_goto (pc := 9) (tgt := 18) C dX0_addFigure_9 rfl ?_
  refine v_iconst (pc := 18) (v := (0 : Int32)) C dX0_addFigure_18 rfl ?_
  cases hf
  exact v_wret (pc := 19) X dX0_addFigure_19
theorem mX0_addFigure {l : Launch} {D : aD} {h : aH} {a0 : Option Nat} {a1 : Int32} {a2 : Option Nat} {q : Int32} {g : aH} (hst : l.stackTraces = false) (hf : fX0_addFigure D h a0 a1 a2 = some (q, g)) : aMw l D yX0_addFigure cX0_addFigure 4 [(0, 9, 12, 21), (0, 9, 15, 15)] 9 3097 [va_rf a0, .int a1, va_rf a2] h q g :=
  aMw.of [(false, va_rf a0), (false, .int a1), (false, va_rf a2)] rfl (ap_r (ap_c rfl (ap_r ap_0))) (by decide +kernel) hst (al_of (aw_r (aw_i (aw_r aw_0))) (by decide)) fun p e s m args below meth c X => V.sub (lv' := [(0, false, va_rf a0), (1, false, .int a1), (2, false, va_rf a2)]) [0, 1, 2] rfl (vX0_addFigure X hf)
def fX0_foundShare (D : aD) (h : aH) (a0 : Option Nat) (a1 : Int32) (a2 : Option Nat) : Option (Int32 × aH) :=
  (aIs h 0 a0).bind fun _ =>
  bndW (fX1_foundShare D h a0 a1) (fun k => if k = 1 then some (1 : Int32) else none) fun x2 h3 =>
  (sF D h3 101 a2 (0 : Int32) (.long x2.toInt64)).bind fun h4 =>
  some ((0 : Int32), h4)
theorem vX0_foundShare {h : aH} {a0 : Option Nat} {a1 : Int32} {a2 : Option Nat} {q : Int32} {g : aH} (X : aXw p l R s m meth c D n0 s0 yX0_foundShare cX0_foundShare 9 3144 4 [(0, 9, 12, 21)] h) (hf : fX0_foundShare D h a0 a1 a2 = some (q, g)) : V p l e R s m args below meth c D n0 s0 (aEndw D below args s h q g) h 0 [(0, false, va_rf a0), (1, false, .int a1), (2, false, va_rf a2)] [] := by
  have C := X.1
  unfold fX0_foundShare at hf
  refine v_aload_n (pc := 0) (j := 2) C dX0_foundShare_0 rfl rfl ?_
  refine v_iconst (pc := 1) (v := (0 : Int32)) C dX0_foundShare_1 rfl ?_
  refine v_aload_n (pc := 2) (j := 0) C dX0_foundShare_2 rfl rfl ?_
  refine v_iload_n (pc := 3) (j := 1) C dX0_foundShare_3 rfl rfl ?_
  obtain ⟨b1, eb1, hf⟩ := oB hf
  obtain ⟨rb1, _, kb1⟩ := aIs_eq eb1
  rcases bndW_eq hf with ⟨kx2, cx2, gx2, ex2, hk, qx2⟩ | ⟨x2, h3, ex2, hf⟩
  · cases qx2
    by_cases k1 : kx2 = 1
    · subst k1
      rw [if_pos rfl] at hk
      cases hk
      exact v_ofDc (pc := 4) (ek := 1) X [] [] rfl (fun _ hz => by cases hz) (by decide) (by decide) q1677 q1714 ⟨3, 1, 1, by decide, Or.inr ⟨3, rfl, dX0_foundShare_12, rfl⟩, dX0_foundShare_13, rfl, dX0_foundShare_14⟩ (Nat.le_refl _) (Nat.le_refl _) (d_V (pc := 4) C (As := [.int a1]) (rest := [.int (0 : Int32), va_rf a2]) rb1 kb1 nt_0 q1882 yi_X1_foundShare_FigureSurvey yk_X1_foundShare rfl (by decide) (by decide) (Nat.le_trans (aw_i (aw_r aw_0)) (by decide)) rfl (mX1_foundShare C.st ex2) dX0_foundShare_4)
    rw [if_neg k1] at hk
    cases hk
  refine v_call (pc := 4) (d_V (pc := 4) C (As := [.int a1]) (rest := [.int (0 : Int32), va_rf a2]) rb1 kb1 nt_0 q1882 yi_X1_foundShare_FigureSurvey yk_X1_foundShare rfl (by decide) (by decide) (Nat.le_trans (aw_i (aw_r aw_0)) (by decide)) rfl (mX1_foundShare C.st ex2) dX0_foundShare_4) ?_
  refine v_i2l (pc := 7) C dX0_foundShare_7 ?_
  obtain ⟨h4, eh4, hf⟩ := oB hf
  refine v_lastore (pc := 8) C eh4 dX0_foundShare_8 ?_
  refine v_goto (pc := 9) (tgt := 15) C dX0_foundShare_9 rfl ?_
  refine v_iconst (pc := 15) (v := (0 : Int32)) C dX0_foundShare_15 rfl ?_
  cases hf
  exact v_wret (pc := 16) X dX0_foundShare_16
theorem mX0_foundShare {l : Launch} {D : aD} {h : aH} {a0 : Option Nat} {a1 : Int32} {a2 : Option Nat} {q : Int32} {g : aH} (hst : l.stackTraces = false) (hf : fX0_foundShare D h a0 a1 a2 = some (q, g)) : aMw l D yX0_foundShare cX0_foundShare 4 [(0, 9, 12, 21)] 9 3144 [va_rf a0, .int a1, va_rf a2] h q g :=
  aMw.of [(false, va_rf a0), (false, .int a1), (false, va_rf a2)] rfl (ap_r (ap_c rfl (ap_r ap_0))) (by decide +kernel) hst (al_of (aw_r (aw_i (aw_r aw_0))) (by decide)) fun p e s m args below meth c X => V.sub (lv' := [(0, false, va_rf a0), (1, false, .int a1), (2, false, va_rf a2)]) [0, 1, 2] rfl (vX0_foundShare X hf)
def fX0_mark (D : aD) (h : aH) (a0 : Option Nat) (a1 : Int32) (a2 : Int32) (a3 : Option Nat) : Option (Int32 × aH) :=
  (aIs h 0 a0).bind fun _ =>
  bndW (fX1_mark D h a0 a1 a2) (fun k => if k = 1 then some (1 : Int32) else if k = 2 then some (2 : Int32) else none) fun x2 h3 =>
  (sF D h3 101 a3 (0 : Int32) (.long x2.toInt64)).bind fun h4 =>
  some ((0 : Int32), h4)
theorem vX0_mark {h : aH} {a0 : Option Nat} {a1 : Int32} {a2 : Int32} {a3 : Option Nat} {q : Int32} {g : aH} (X : aXw p l R s m meth c D n0 s0 yX0_mark cX0_mark 11 3119 5 [(0, 10, 13, 21), (0, 10, 17, 13)] h) (hf : fX0_mark D h a0 a1 a2 a3 = some (q, g)) : V p l e R s m args below meth c D n0 s0 (aEndw D below args s h q g) h 0 [(0, false, va_rf a0), (1, false, .int a1), (2, false, .int a2), (3, false, va_rf a3)] [] := by
  have C := X.1
  unfold fX0_mark at hf
  refine v_aload_n (pc := 0) (j := 3) C dX0_mark_0 rfl rfl ?_
  refine v_iconst (pc := 1) (v := (0 : Int32)) C dX0_mark_1 rfl ?_
  refine v_aload_n (pc := 2) (j := 0) C dX0_mark_2 rfl rfl ?_
  refine v_iload_n (pc := 3) (j := 1) C dX0_mark_3 rfl rfl ?_
  refine v_iload_n (pc := 4) (j := 2) C dX0_mark_4 rfl rfl ?_
  obtain ⟨b1, eb1, hf⟩ := oB hf
  obtain ⟨rb1, _, kb1⟩ := aIs_eq eb1
  rcases bndW_eq hf with ⟨kx2, cx2, gx2, ex2, hk, qx2⟩ | ⟨x2, h3, ex2, hf⟩
  · cases qx2
    by_cases k1 : kx2 = 1
    · subst k1
      rw [if_pos rfl] at hk
      cases hk
      exact v_ofDc (pc := 5) (ek := 1) X [] [(0, 10, 17, 13)] rfl (fun _ hz => by cases hz) (by decide) (by decide) q1677 q1714 ⟨4, 2, 1, by decide, Or.inl ⟨dX0_mark_13, rfl⟩, dX0_mark_15, rfl, dX0_mark_16⟩ (Nat.le_refl _) (Nat.le_refl _) (d_V (pc := 5) C (As := [.int a1, .int a2]) (rest := [.int (0 : Int32), va_rf a3]) rb1 kb1 nt_0 q1974 yi_X1_mark_FigureSurvey yk_X1_mark rfl (by decide) (by decide) (Nat.le_trans (aw_i (aw_r aw_0)) (by decide)) rfl (mX1_mark C.st ex2) dX0_mark_5)
    rw [if_neg k1] at hk
    by_cases k2 : kx2 = 2
    · subst k2
      rw [if_pos rfl] at hk
      cases hk
      exact v_ofDc (pc := 5) (ek := 2) X [(0, 10, 13, 21)] [] rfl (List.forall_mem_cons.mpr ⟨⟨by decide, _, q1677, by decide +kernel⟩, fun _ hz => by cases hz⟩) (by decide) (by decide) q1572 q294 ⟨4, 2, 2, by decide, Or.inl ⟨dX0_mark_17, rfl⟩, dX0_mark_19, rfl, dX0_mark_20⟩ (Nat.le_refl _) (Nat.le_refl _) (d_V (pc := 5) C (As := [.int a1, .int a2]) (rest := [.int (0 : Int32), va_rf a3]) rb1 kb1 nt_0 q1974 yi_X1_mark_FigureSurvey yk_X1_mark rfl (by decide) (by decide) (Nat.le_trans (aw_i (aw_r aw_0)) (by decide)) rfl (mX1_mark C.st ex2) dX0_mark_5)
    rw [if_neg k2] at hk
    cases hk
  refine v_call (pc := 5) (d_V (pc := 5) C (As := [.int a1, .int a2]) (rest := [.int (0 : Int32), va_rf a3]) rb1 kb1 nt_0 q1974 yi_X1_mark_FigureSurvey yk_X1_mark rfl (by decide) (by decide) (Nat.le_trans (aw_i (aw_r aw_0)) (by decide)) rfl (mX1_mark C.st ex2) dX0_mark_5) ?_
  refine v_i2l (pc := 8) C dX0_mark_8 ?_
  obtain ⟨h4, eh4, hf⟩ := oB hf
  refine v_lastore (pc := 9) C eh4 dX0_mark_9 ?_
  refine v_goto (pc := 10) (tgt := 21) C dX0_mark_10 rfl ?_
  refine v_iconst (pc := 21) (v := (0 : Int32)) C dX0_mark_21 rfl ?_
  cases hf
  exact v_wret (pc := 22) X dX0_mark_22
theorem mX0_mark {l : Launch} {D : aD} {h : aH} {a0 : Option Nat} {a1 : Int32} {a2 : Int32} {a3 : Option Nat} {q : Int32} {g : aH} (hst : l.stackTraces = false) (hf : fX0_mark D h a0 a1 a2 a3 = some (q, g)) : aMw l D yX0_mark cX0_mark 5 [(0, 10, 13, 21), (0, 10, 17, 13)] 11 3119 [va_rf a0, .int a1, .int a2, va_rf a3] h q g :=
  aMw.of [(false, va_rf a0), (false, .int a1), (false, .int a2), (false, va_rf a3)] rfl (ap_r (ap_c rfl (ap_c rfl (ap_r ap_0)))) (by decide +kernel) hst (al_of (aw_r (aw_i (aw_i (aw_r aw_0)))) (by decide)) fun p e s m args below meth c X => V.sub (lv' := [(0, false, va_rf a0), (1, false, .int a1), (2, false, .int a2), (3, false, va_rf a3)]) [0, 1, 2, 3] rfl (vX0_mark X hf)
def fX0_doubtOf (D : aD) (h : aH) (a0 : Option Nat) (a1 : Int32) (a2 : Option Nat) : Option (Int32 × aH) :=
  (aIs h 0 a0).bind fun _ =>
  bndW (fX1_doubtOf D h a0 a1) (fun k => if k = 1 then some (1 : Int32) else none) fun x2 h3 =>
  (sF D h3 101 a2 (0 : Int32) (.long x2.toInt64)).bind fun h4 =>
  some ((0 : Int32), h4)
theorem vX0_doubtOf {h : aH} {a0 : Option Nat} {a1 : Int32} {a2 : Option Nat} {q : Int32} {g : aH} (X : aXw p l R s m meth c D n0 s0 yX0_doubtOf cX0_doubtOf 11 3117 4 [(0, 9, 12, 21)] h) (hf : fX0_doubtOf D h a0 a1 a2 = some (q, g)) : V p l e R s m args below meth c D n0 s0 (aEndw D below args s h q g) h 0 [(0, false, va_rf a0), (1, false, .int a1), (2, false, va_rf a2)] [] := by
  have C := X.1
  unfold fX0_doubtOf at hf
  refine v_aload_n (pc := 0) (j := 2) C dX0_doubtOf_0 rfl rfl ?_
  refine v_iconst (pc := 1) (v := (0 : Int32)) C dX0_doubtOf_1 rfl ?_
  refine v_aload_n (pc := 2) (j := 0) C dX0_doubtOf_2 rfl rfl ?_
  refine v_iload_n (pc := 3) (j := 1) C dX0_doubtOf_3 rfl rfl ?_
  obtain ⟨b1, eb1, hf⟩ := oB hf
  obtain ⟨rb1, _, kb1⟩ := aIs_eq eb1
  rcases bndW_eq hf with ⟨kx2, cx2, gx2, ex2, hk, qx2⟩ | ⟨x2, h3, ex2, hf⟩
  · cases qx2
    by_cases k1 : kx2 = 1
    · subst k1
      rw [if_pos rfl] at hk
      cases hk
      exact v_ofDc (pc := 4) (ek := 1) X [] [] rfl (fun _ hz => by cases hz) (by decide) (by decide) q1677 q1714 ⟨3, 1, 1, by decide, Or.inr ⟨3, rfl, dX0_doubtOf_12, rfl⟩, dX0_doubtOf_13, rfl, dX0_doubtOf_14⟩ (Nat.le_refl _) (Nat.le_refl _) (d_V (pc := 4) C (As := [.int a1]) (rest := [.int (0 : Int32), va_rf a2]) rb1 kb1 nt_0 q1989 yi_X1_doubtOf_FigureSurvey yk_X1_doubtOf rfl (by decide) (by decide) (Nat.le_trans (aw_i (aw_r aw_0)) (by decide)) rfl (mX1_doubtOf C.st ex2) dX0_doubtOf_4)
    rw [if_neg k1] at hk
    cases hk
  refine v_call (pc := 4) (d_V (pc := 4) C (As := [.int a1]) (rest := [.int (0 : Int32), va_rf a2]) rb1 kb1 nt_0 q1989 yi_X1_doubtOf_FigureSurvey yk_X1_doubtOf rfl (by decide) (by decide) (Nat.le_trans (aw_i (aw_r aw_0)) (by decide)) rfl (mX1_doubtOf C.st ex2) dX0_doubtOf_4) ?_
  refine v_i2l (pc := 7) C dX0_doubtOf_7 ?_
  obtain ⟨h4, eh4, hf⟩ := oB hf
  refine v_lastore (pc := 8) C eh4 dX0_doubtOf_8 ?_
  refine v_goto (pc := 9) (tgt := 15) C dX0_doubtOf_9 rfl ?_
  refine v_iconst (pc := 15) (v := (0 : Int32)) C dX0_doubtOf_15 rfl ?_
  cases hf
  exact v_wret (pc := 16) X dX0_doubtOf_16
theorem mX0_doubtOf {l : Launch} {D : aD} {h : aH} {a0 : Option Nat} {a1 : Int32} {a2 : Option Nat} {q : Int32} {g : aH} (hst : l.stackTraces = false) (hf : fX0_doubtOf D h a0 a1 a2 = some (q, g)) : aMw l D yX0_doubtOf cX0_doubtOf 4 [(0, 9, 12, 21)] 11 3117 [va_rf a0, .int a1, va_rf a2] h q g :=
  aMw.of [(false, va_rf a0), (false, .int a1), (false, va_rf a2)] rfl (ap_r (ap_c rfl (ap_r ap_0))) (by decide +kernel) hst (al_of (aw_r (aw_i (aw_r aw_0))) (by decide)) fun p e s m args below meth c X => V.sub (lv' := [(0, false, va_rf a0), (1, false, .int a1), (2, false, va_rf a2)]) [0, 1, 2] rfl (vX0_doubtOf X hf)
def fX0_findOver (D : aD) (h : aH) (a0 : Option Nat) (a1 : Int32) (a2 : Int32) (a3 : Int32) (a4 : Option Nat) : Option (Int32 × aH) :=
  (aIs h 0 a0).bind fun _ =>
  bndW (fX1_findOver D h a0 a1 a2 a3) (fun k => if k = 1 then some (1 : Int32) else if k = 2 then some (2 : Int32) else if k = 3 then some (3 : Int32) else none) fun x2 h3 =>
  (sF D h3 101 a4 (0 : Int32) (.long x2.toInt64)).bind fun h4 =>
  some ((0 : Int32), h4)
theorem vX0_findOver {h : aH} {a0 : Option Nat} {a1 : Int32} {a2 : Int32} {a3 : Int32} {a4 : Option Nat} {q : Int32} {g : aH} (X : aXw p l R s m meth c D n0 s0 yX0_findOver cX0_findOver 23 3390 6 [(0, 12, 15, 21), (0, 12, 19, 13), (0, 12, 23, 15)] h) (hf : fX0_findOver D h a0 a1 a2 a3 a4 = some (q, g)) : V p l e R s m args below meth c D n0 s0 (aEndw D below args s h q g) h 0 [(0, false, va_rf a0), (1, false, .int a1), (2, false, .int a2), (3, false, .int a3), (4, false, va_rf a4)] [] := by
  have C := X.1
  unfold fX0_findOver at hf
  refine v_aload (pc := 0) (j := 4) C dX0_findOver_0 rfl ?_
  refine v_iconst (pc := 2) (v := (0 : Int32)) C dX0_findOver_2 rfl ?_
  refine v_aload_n (pc := 3) (j := 0) C dX0_findOver_3 rfl rfl ?_
  refine v_iload_n (pc := 4) (j := 1) C dX0_findOver_4 rfl rfl ?_
  refine v_iload_n (pc := 5) (j := 2) C dX0_findOver_5 rfl rfl ?_
  refine v_iload_n (pc := 6) (j := 3) C dX0_findOver_6 rfl rfl ?_
  obtain ⟨b1, eb1, hf⟩ := oB hf
  obtain ⟨rb1, _, kb1⟩ := aIs_eq eb1
  rcases bndW_eq hf with ⟨kx2, cx2, gx2, ex2, hk, qx2⟩ | ⟨x2, h3, ex2, hf⟩
  · cases qx2
    by_cases k1 : kx2 = 1
    · subst k1
      rw [if_pos rfl] at hk
      cases hk
      exact v_ofDc (pc := 7) (ek := 1) X [] [(0, 12, 19, 13), (0, 12, 23, 15)] rfl (fun _ hz => by cases hz) (by decide) (by decide) q1677 q1714 ⟨5, 2, 1, by decide, Or.inl ⟨dX0_findOver_15, rfl⟩, dX0_findOver_17, rfl, dX0_findOver_18⟩ (Nat.le_refl _) (Nat.le_refl _) (d_V (pc := 7) C (As := [.int a1, .int a2, .int a3]) (rest := [.int (0 : Int32), va_rf a4]) rb1 kb1 nt_0 q2010 yi_X1_findOver_FigureSurvey yk_X1_findOver rfl (by decide) (by decide) (Nat.le_trans (aw_i (aw_r aw_0)) (by decide)) rfl (mX1_findOver C.st ex2) dX0_findOver_7)
    rw [if_neg k1] at hk
    by_cases k2 : kx2 = 2
    · subst k2
      rw [if_pos rfl] at hk
      cases hk
      exact v_ofDc (pc := 7) (ek := 2) X [(0, 12, 15, 21)] [(0, 12, 23, 15)] rfl (List.forall_mem_cons.mpr ⟨⟨by decide, _, q1677, by decide +kernel⟩, fun _ hz => by cases hz⟩) (by decide) (by decide) q1572 q294 ⟨5, 2, 2, by decide, Or.inl ⟨dX0_findOver_19, rfl⟩, dX0_findOver_21, rfl, dX0_findOver_22⟩ (Nat.le_refl _) (Nat.le_refl _) (d_V (pc := 7) C (As := [.int a1, .int a2, .int a3]) (rest := [.int (0 : Int32), va_rf a4]) rb1 kb1 nt_0 q2010 yi_X1_findOver_FigureSurvey yk_X1_findOver rfl (by decide) (by decide) (Nat.le_trans (aw_i (aw_r aw_0)) (by decide)) rfl (mX1_findOver C.st ex2) dX0_findOver_7)
    rw [if_neg k2] at hk
    by_cases k3 : kx2 = 3
    · subst k3
      rw [if_pos rfl] at hk
      cases hk
      exact v_ofDc (pc := 7) (ek := 3) X [(0, 12, 15, 21), (0, 12, 19, 13)] [] rfl (List.forall_mem_cons.mpr ⟨⟨by decide, _, q1677, by decide +kernel⟩, List.forall_mem_cons.mpr ⟨⟨by decide, _, q1572, by decide +kernel⟩, fun _ hz => by cases hz⟩⟩) (by decide) (by decide) q1573 q1600 ⟨5, 2, 3, by decide, Or.inl ⟨dX0_findOver_23, rfl⟩, dX0_findOver_25, rfl, dX0_findOver_26⟩ (Nat.le_refl _) (Nat.le_refl _) (d_V (pc := 7) C (As := [.int a1, .int a2, .int a3]) (rest := [.int (0 : Int32), va_rf a4]) rb1 kb1 nt_0 q2010 yi_X1_findOver_FigureSurvey yk_X1_findOver rfl (by decide) (by decide) (Nat.le_trans (aw_i (aw_r aw_0)) (by decide)) rfl (mX1_findOver C.st ex2) dX0_findOver_7)
    rw [if_neg k3] at hk
    cases hk
  refine v_call (pc := 7) (d_V (pc := 7) C (As := [.int a1, .int a2, .int a3]) (rest := [.int (0 : Int32), va_rf a4]) rb1 kb1 nt_0 q2010 yi_X1_findOver_FigureSurvey yk_X1_findOver rfl (by decide) (by decide) (Nat.le_trans (aw_i (aw_r aw_0)) (by decide)) rfl (mX1_findOver C.st ex2) dX0_findOver_7) ?_
  refine v_i2l (pc := 10) C dX0_findOver_10 ?_
  obtain ⟨h4, eh4, hf⟩ := oB hf
  refine v_lastore (pc := 11) C eh4 dX0_findOver_11 ?_
  refine v_goto (pc := 12) (tgt := 27) C dX0_findOver_12 rfl ?_
  refine v_iconst (pc := 27) (v := (0 : Int32)) C dX0_findOver_27 rfl ?_
  cases hf
  exact v_wret (pc := 28) X dX0_findOver_28
theorem mX0_findOver {l : Launch} {D : aD} {h : aH} {a0 : Option Nat} {a1 : Int32} {a2 : Int32} {a3 : Int32} {a4 : Option Nat} {q : Int32} {g : aH} (hst : l.stackTraces = false) (hf : fX0_findOver D h a0 a1 a2 a3 a4 = some (q, g)) : aMw l D yX0_findOver cX0_findOver 6 [(0, 12, 15, 21), (0, 12, 19, 13), (0, 12, 23, 15)] 23 3390 [va_rf a0, .int a1, .int a2, .int a3, va_rf a4] h q g :=
  aMw.of [(false, va_rf a0), (false, .int a1), (false, .int a2), (false, .int a3), (false, va_rf a4)] rfl (ap_r (ap_c rfl (ap_c rfl (ap_c rfl (ap_r ap_0))))) (by decide +kernel) hst (al_of (aw_r (aw_i (aw_i (aw_i (aw_r aw_0))))) (by decide)) fun p e s m args below meth c X => V.sub (lv' := [(0, false, va_rf a0), (1, false, .int a1), (2, false, .int a2), (3, false, .int a3), (4, false, va_rf a4)]) [0, 1, 2, 3, 4] rfl (vX0_findOver X hf)
def fX0_findDate (D : aD) (h : aH) (a0 : Option Nat) (a1 : Int32) (a2 : Int32) (a3 : Int32) (a4 : Int32) (a5 : Option Nat) : Option (Int32 × aH) :=
  (aIs h 0 a0).bind fun _ =>
  bndW (fX1_findDate D h a0 a1 a2 a3 a4) (fun k => if k = 1 then some (1 : Int32) else if k = 2 then some (2 : Int32) else if k = 3 then some (3 : Int32) else none) fun x2 h3 =>
  (sF D h3 101 a5 (0 : Int32) (.long x2.toInt64)).bind fun h4 =>
  some ((0 : Int32), h4)
theorem vX0_findDate {h : aH} {a0 : Option Nat} {a1 : Int32} {a2 : Int32} {a3 : Int32} {a4 : Int32} {a5 : Option Nat} {q : Int32} {g : aH} (X : aXw p l R s m meth c D n0 s0 yX0_findDate cX0_findDate 23 3390 7 [(0, 14, 17, 21), (0, 14, 21, 13), (0, 14, 25, 15)] h) (hf : fX0_findDate D h a0 a1 a2 a3 a4 a5 = some (q, g)) : V p l e R s m args below meth c D n0 s0 (aEndw D below args s h q g) h 0 [(0, false, va_rf a0), (1, false, .int a1), (2, false, .int a2), (3, false, .int a3), (4, false, .int a4), (5, false, va_rf a5)] [] := by
  have C := X.1
  unfold fX0_findDate at hf
  refine v_aload (pc := 0) (j := 5) C dX0_findDate_0 rfl ?_
  refine v_iconst (pc := 2) (v := (0 : Int32)) C dX0_findDate_2 rfl ?_
  refine v_aload_n (pc := 3) (j := 0) C dX0_findDate_3 rfl rfl ?_
  refine v_iload_n (pc := 4) (j := 1) C dX0_findDate_4 rfl rfl ?_
  refine v_iload_n (pc := 5) (j := 2) C dX0_findDate_5 rfl rfl ?_
  refine v_iload_n (pc := 6) (j := 3) C dX0_findDate_6 rfl rfl ?_
  refine v_iload (pc := 7) (j := 4) C dX0_findDate_7 rfl ?_
  obtain ⟨b1, eb1, hf⟩ := oB hf
  obtain ⟨rb1, _, kb1⟩ := aIs_eq eb1
  rcases bndW_eq hf with ⟨kx2, cx2, gx2, ex2, hk, qx2⟩ | ⟨x2, h3, ex2, hf⟩
  · cases qx2
    by_cases k1 : kx2 = 1
    · subst k1
      rw [if_pos rfl] at hk
      cases hk
      exact v_ofDc (pc := 9) (ek := 1) X [] [(0, 14, 21, 13), (0, 14, 25, 15)] rfl (fun _ hz => by cases hz) (by decide) (by decide) q1677 q1714 ⟨6, 2, 1, by decide, Or.inl ⟨dX0_findDate_17, rfl⟩, dX0_findDate_19, rfl, dX0_findDate_20⟩ (Nat.le_refl _) (Nat.le_refl _) (d_V (pc := 9) C (As := [.int a1, .int a2, .int a3, .int a4]) (rest := [.int (0 : Int32), va_rf a5]) rb1 kb1 nt_0 q2082 yi_X1_findDate_FigureSurvey yk_X1_findDate rfl (by decide) (by decide) (Nat.le_trans (aw_i (aw_r aw_0)) (by decide)) rfl (mX1_findDate C.st ex2) dX0_findDate_9)
    rw [if_neg k1] at hk
    by_cases k2 : kx2 = 2
    · subst k2
      rw [if_pos rfl] at hk
      cases hk
      exact v_ofDc (pc := 9) (ek := 2) X [(0, 14, 17, 21)] [(0, 14, 25, 15)] rfl (List.forall_mem_cons.mpr ⟨⟨by decide, _, q1677, by decide +kernel⟩, fun _ hz => by cases hz⟩) (by decide) (by decide) q1572 q294 ⟨6, 2, 2, by decide, Or.inl ⟨dX0_findDate_21, rfl⟩, dX0_findDate_23, rfl, dX0_findDate_24⟩ (Nat.le_refl _) (Nat.le_refl _) (d_V (pc := 9) C (As := [.int a1, .int a2, .int a3, .int a4]) (rest := [.int (0 : Int32), va_rf a5]) rb1 kb1 nt_0 q2082 yi_X1_findDate_FigureSurvey yk_X1_findDate rfl (by decide) (by decide) (Nat.le_trans (aw_i (aw_r aw_0)) (by decide)) rfl (mX1_findDate C.st ex2) dX0_findDate_9)
    rw [if_neg k2] at hk
    by_cases k3 : kx2 = 3
    · subst k3
      rw [if_pos rfl] at hk
      cases hk
      exact v_ofDc (pc := 9) (ek := 3) X [(0, 14, 17, 21), (0, 14, 21, 13)] [] rfl (List.forall_mem_cons.mpr ⟨⟨by decide, _, q1677, by decide +kernel⟩, List.forall_mem_cons.mpr ⟨⟨by decide, _, q1572, by decide +kernel⟩, fun _ hz => by cases hz⟩⟩) (by decide) (by decide) q1573 q1600 ⟨6, 2, 3, by decide, Or.inl ⟨dX0_findDate_25, rfl⟩, dX0_findDate_27, rfl, dX0_findDate_28⟩ (Nat.le_refl _) (Nat.le_refl _) (d_V (pc := 9) C (As := [.int a1, .int a2, .int a3, .int a4]) (rest := [.int (0 : Int32), va_rf a5]) rb1 kb1 nt_0 q2082 yi_X1_findDate_FigureSurvey yk_X1_findDate rfl (by decide) (by decide) (Nat.le_trans (aw_i (aw_r aw_0)) (by decide)) rfl (mX1_findDate C.st ex2) dX0_findDate_9)
    rw [if_neg k3] at hk
    cases hk
  refine v_call (pc := 9) (d_V (pc := 9) C (As := [.int a1, .int a2, .int a3, .int a4]) (rest := [.int (0 : Int32), va_rf a5]) rb1 kb1 nt_0 q2082 yi_X1_findDate_FigureSurvey yk_X1_findDate rfl (by decide) (by decide) (Nat.le_trans (aw_i (aw_r aw_0)) (by decide)) rfl (mX1_findDate C.st ex2) dX0_findDate_9) ?_
  refine v_i2l (pc := 12) C dX0_findDate_12 ?_
  obtain ⟨h4, eh4, hf⟩ := oB hf
  refine v_lastore (pc := 13) C eh4 dX0_findDate_13 ?_
  refine v_goto (pc := 14) (tgt := 29) C dX0_findDate_14 rfl ?_
  refine v_iconst (pc := 29) (v := (0 : Int32)) C dX0_findDate_29 rfl ?_
  cases hf
  exact v_wret (pc := 30) X dX0_findDate_30
theorem mX0_findDate {l : Launch} {D : aD} {h : aH} {a0 : Option Nat} {a1 : Int32} {a2 : Int32} {a3 : Int32} {a4 : Int32} {a5 : Option Nat} {q : Int32} {g : aH} (hst : l.stackTraces = false) (hf : fX0_findDate D h a0 a1 a2 a3 a4 a5 = some (q, g)) : aMw l D yX0_findDate cX0_findDate 7 [(0, 14, 17, 21), (0, 14, 21, 13), (0, 14, 25, 15)] 23 3390 [va_rf a0, .int a1, .int a2, .int a3, .int a4, va_rf a5] h q g :=
  aMw.of [(false, va_rf a0), (false, .int a1), (false, .int a2), (false, .int a3), (false, .int a4), (false, va_rf a5)] rfl (ap_r (ap_c rfl (ap_c rfl (ap_c rfl (ap_c rfl (ap_r ap_0)))))) (by decide +kernel) hst (al_of (aw_r (aw_i (aw_i (aw_i (aw_i (aw_r aw_0)))))) (by decide)) fun p e s m args below meth c X => V.sub (lv' := [(0, false, va_rf a0), (1, false, .int a1), (2, false, .int a2), (3, false, .int a3), (4, false, .int a4), (5, false, va_rf a5)]) [0, 1, 2, 3, 4, 5] rfl (vX0_findDate X hf)
def fX0_standOf (D : aD) (h : aH) (a0 : Option Nat) (a1 : Int32) (a2 : Option Nat) : Option (Int32 × aH) :=
  (aIs h 0 a0).bind fun _ =>
  bndW (fX1_standOf D h a0 a1) (fun k => if k = 1 then some (1 : Int32) else none) fun x2 h3 =>
  (sF D h3 101 a2 (0 : Int32) (.long x2.toInt64)).bind fun h4 =>
  some ((0 : Int32), h4)
theorem vX0_standOf {h : aH} {a0 : Option Nat} {a1 : Int32} {a2 : Option Nat} {q : Int32} {g : aH} (X : aXw p l R s m meth c D n0 s0 yX0_standOf cX0_standOf 14 3184 4 [(0, 9, 12, 21)] h) (hf : fX0_standOf D h a0 a1 a2 = some (q, g)) : V p l e R s m args below meth c D n0 s0 (aEndw D below args s h q g) h 0 [(0, false, va_rf a0), (1, false, .int a1), (2, false, va_rf a2)] [] := by
  have C := X.1
  unfold fX0_standOf at hf
  refine v_aload_n (pc := 0) (j := 2) C dX0_standOf_0 rfl rfl ?_
  refine v_iconst (pc := 1) (v := (0 : Int32)) C dX0_standOf_1 rfl ?_
  refine v_aload_n (pc := 2) (j := 0) C dX0_standOf_2 rfl rfl ?_
  refine v_iload_n (pc := 3) (j := 1) C dX0_standOf_3 rfl rfl ?_
  obtain ⟨b1, eb1, hf⟩ := oB hf
  obtain ⟨rb1, _, kb1⟩ := aIs_eq eb1
  rcases bndW_eq hf with ⟨kx2, cx2, gx2, ex2, hk, qx2⟩ | ⟨x2, h3, ex2, hf⟩
  · cases qx2
    by_cases k1 : kx2 = 1
    · subst k1
      rw [if_pos rfl] at hk
      cases hk
      exact v_ofDc (pc := 4) (ek := 1) X [] [] rfl (fun _ hz => by cases hz) (by decide) (by decide) q1677 q1714 ⟨3, 1, 1, by decide, Or.inr ⟨3, rfl, dX0_standOf_12, rfl⟩, dX0_standOf_13, rfl, dX0_standOf_14⟩ (Nat.le_refl _) (Nat.le_refl _) (d_V (pc := 4) C (As := [.int a1]) (rest := [.int (0 : Int32), va_rf a2]) rb1 kb1 nt_0 q2126 yi_X1_standOf_FigureSurvey yk_X1_standOf rfl (by decide) (by decide) (Nat.le_trans (aw_i (aw_r aw_0)) (by decide)) rfl (mX1_standOf C.st ex2) dX0_standOf_4)
    rw [if_neg k1] at hk
    cases hk
  refine v_call (pc := 4) (d_V (pc := 4) C (As := [.int a1]) (rest := [.int (0 : Int32), va_rf a2]) rb1 kb1 nt_0 q2126 yi_X1_standOf_FigureSurvey yk_X1_standOf rfl (by decide) (by decide) (Nat.le_trans (aw_i (aw_r aw_0)) (by decide)) rfl (mX1_standOf C.st ex2) dX0_standOf_4) ?_
  refine v_i2l (pc := 7) C dX0_standOf_7 ?_
  obtain ⟨h4, eh4, hf⟩ := oB hf
  refine v_lastore (pc := 8) C eh4 dX0_standOf_8 ?_
  refine v_goto (pc := 9) (tgt := 15) C dX0_standOf_9 rfl ?_
  refine v_iconst (pc := 15) (v := (0 : Int32)) C dX0_standOf_15 rfl ?_
  cases hf
  exact v_wret (pc := 16) X dX0_standOf_16
theorem mX0_standOf {l : Launch} {D : aD} {h : aH} {a0 : Option Nat} {a1 : Int32} {a2 : Option Nat} {q : Int32} {g : aH} (hst : l.stackTraces = false) (hf : fX0_standOf D h a0 a1 a2 = some (q, g)) : aMw l D yX0_standOf cX0_standOf 4 [(0, 9, 12, 21)] 14 3184 [va_rf a0, .int a1, va_rf a2] h q g :=
  aMw.of [(false, va_rf a0), (false, .int a1), (false, va_rf a2)] rfl (ap_r (ap_c rfl (ap_r ap_0))) (by decide +kernel) hst (al_of (aw_r (aw_i (aw_r aw_0))) (by decide)) fun p e s m args below meth c X => V.sub (lv' := [(0, false, va_rf a0), (1, false, .int a1), (2, false, va_rf a2)]) [0, 1, 2] rfl (vX0_standOf X hf)
def fX0_orderAt (D : aD) (h : aH) (a0 : Option Nat) (a1 : Int32) (a2 : Int32) (a3 : Option Nat) : Option (Int32 × aH) :=
  (aIs h 0 a0).bind fun _ =>
  bndW (fX1_orderAt D h a0 a1 a2) (fun k => if k = 1 then some (1 : Int32) else none) fun x2 h3 =>
  (sF D h3 101 a3 (0 : Int32) (.long x2.toInt64)).bind fun h4 =>
  some ((0 : Int32), h4)
theorem vX0_orderAt {h : aH} {a0 : Option Nat} {a1 : Int32} {a2 : Int32} {a3 : Option Nat} {q : Int32} {g : aH} (X : aXw p l R s m meth c D n0 s0 yX0_orderAt cX0_orderAt 13 3163 5 [(0, 10, 13, 21)] h) (hf : fX0_orderAt D h a0 a1 a2 a3 = some (q, g)) : V p l e R s m args below meth c D n0 s0 (aEndw D below args s h q g) h 0 [(0, false, va_rf a0), (1, false, .int a1), (2, false, .int a2), (3, false, va_rf a3)] [] := by
  have C := X.1
  unfold fX0_orderAt at hf
  refine v_aload_n (pc := 0) (j := 3) C dX0_orderAt_0 rfl rfl ?_
  refine v_iconst (pc := 1) (v := (0 : Int32)) C dX0_orderAt_1 rfl ?_
  refine v_aload_n (pc := 2) (j := 0) C dX0_orderAt_2 rfl rfl ?_
  refine v_iload_n (pc := 3) (j := 1) C dX0_orderAt_3 rfl rfl ?_
  refine v_iload_n (pc := 4) (j := 2) C dX0_orderAt_4 rfl rfl ?_
  obtain ⟨b1, eb1, hf⟩ := oB hf
  obtain ⟨rb1, _, kb1⟩ := aIs_eq eb1
  rcases bndW_eq hf with ⟨kx2, cx2, gx2, ex2, hk, qx2⟩ | ⟨x2, h3, ex2, hf⟩
  · cases qx2
    by_cases k1 : kx2 = 1
    · subst k1
      rw [if_pos rfl] at hk
      cases hk
      exact v_ofDc (pc := 5) (ek := 1) X [] [] rfl (fun _ hz => by cases hz) (by decide) (by decide) q1677 q1714 ⟨4, 2, 1, by decide, Or.inl ⟨dX0_orderAt_13, rfl⟩, dX0_orderAt_15, rfl, dX0_orderAt_16⟩ (Nat.le_refl _) (Nat.le_refl _) (d_V (pc := 5) C (As := [.int a1, .int a2]) (rest := [.int (0 : Int32), va_rf a3]) rb1 kb1 nt_0 q2137 yi_X1_orderAt_FigureSurvey yk_X1_orderAt rfl (by decide) (by decide) (Nat.le_trans (aw_i (aw_r aw_0)) (by decide)) rfl (mX1_orderAt C.st ex2) dX0_orderAt_5)
    rw [if_neg k1] at hk
    cases hk
  refine v_call (pc := 5) (d_V (pc := 5) C (As := [.int a1, .int a2]) (rest := [.int (0 : Int32), va_rf a3]) rb1 kb1 nt_0 q2137 yi_X1_orderAt_FigureSurvey yk_X1_orderAt rfl (by decide) (by decide) (Nat.le_trans (aw_i (aw_r aw_0)) (by decide)) rfl (mX1_orderAt C.st ex2) dX0_orderAt_5) ?_
  refine v_i2l (pc := 8) C dX0_orderAt_8 ?_
  obtain ⟨h4, eh4, hf⟩ := oB hf
  refine v_lastore (pc := 9) C eh4 dX0_orderAt_9 ?_
  refine v_goto (pc := 10) (tgt := 17) C dX0_orderAt_10 rfl ?_
  refine v_iconst (pc := 17) (v := (0 : Int32)) C dX0_orderAt_17 rfl ?_
  cases hf
  exact v_wret (pc := 18) X dX0_orderAt_18
theorem mX0_orderAt {l : Launch} {D : aD} {h : aH} {a0 : Option Nat} {a1 : Int32} {a2 : Int32} {a3 : Option Nat} {q : Int32} {g : aH} (hst : l.stackTraces = false) (hf : fX0_orderAt D h a0 a1 a2 a3 = some (q, g)) : aMw l D yX0_orderAt cX0_orderAt 5 [(0, 10, 13, 21)] 13 3163 [va_rf a0, .int a1, .int a2, va_rf a3] h q g :=
  aMw.of [(false, va_rf a0), (false, .int a1), (false, .int a2), (false, va_rf a3)] rfl (ap_r (ap_c rfl (ap_c rfl (ap_r ap_0)))) (by decide +kernel) hst (al_of (aw_r (aw_i (aw_i (aw_r aw_0)))) (by decide)) fun p e s m args below meth c X => V.sub (lv' := [(0, false, va_rf a0), (1, false, .int a1), (2, false, .int a2), (3, false, va_rf a3)]) [0, 1, 2, 3] rfl (vX0_orderAt X hf)
def fX0_brokenWeight (D : aD) (h : aH) (a0 : Option Nat) (a1 : Int32) (a2 : Option Nat) : Option (Int32 × aH) :=
  (aIs h 0 a0).bind fun _ =>
  bndW (fX1_brokenWeight D h a0 a1) (fun k => if k = 1 then some (1 : Int32) else none) fun x2 h3 =>
  (sF D h3 101 a2 (0 : Int32) (.long x2.toInt64)).bind fun h4 =>
  some ((0 : Int32), h4)
theorem vX0_brokenWeight {h : aH} {a0 : Option Nat} {a1 : Int32} {a2 : Option Nat} {q : Int32} {g : aH} (X : aXw p l R s m meth c D n0 s0 yX0_brokenWeight cX0_brokenWeight 13 3161 4 [(0, 9, 12, 21)] h) (hf : fX0_brokenWeight D h a0 a1 a2 = some (q, g)) : V p l e R s m args below meth c D n0 s0 (aEndw D below args s h q g) h 0 [(0, false, va_rf a0), (1, false, .int a1), (2, false, va_rf a2)] [] := by
  have C := X.1
  unfold fX0_brokenWeight at hf
  refine v_aload_n (pc := 0) (j := 2) C dX0_brokenWeight_0 rfl rfl ?_
  refine v_iconst (pc := 1) (v := (0 : Int32)) C dX0_brokenWeight_1 rfl ?_
  refine v_aload_n (pc := 2) (j := 0) C dX0_brokenWeight_2 rfl rfl ?_
  refine v_iload_n (pc := 3) (j := 1) C dX0_brokenWeight_3 rfl rfl ?_
  obtain ⟨b1, eb1, hf⟩ := oB hf
  obtain ⟨rb1, _, kb1⟩ := aIs_eq eb1
  rcases bndW_eq hf with ⟨kx2, cx2, gx2, ex2, hk, qx2⟩ | ⟨x2, h3, ex2, hf⟩
  · cases qx2
    by_cases k1 : kx2 = 1
    · subst k1
      rw [if_pos rfl] at hk
      cases hk
      exact v_ofDc (pc := 4) (ek := 1) X [] [] rfl (fun _ hz => by cases hz) (by decide) (by decide) q1677 q1714 ⟨3, 1, 1, by decide, Or.inr ⟨3, rfl, dX0_brokenWeight_12, rfl⟩, dX0_brokenWeight_13, rfl, dX0_brokenWeight_14⟩ (Nat.le_refl _) (Nat.le_refl _) (d_V (pc := 4) C (As := [.int a1]) (rest := [.int (0 : Int32), va_rf a2]) rb1 kb1 nt_0 q2144 yi_X1_brokenWeight_FigureSurvey yk_X1_brokenWeight rfl (by decide) (by decide) (Nat.le_trans (aw_i (aw_r aw_0)) (by decide)) rfl (mX1_brokenWeight C.st ex2) dX0_brokenWeight_4)
    rw [if_neg k1] at hk
    cases hk
  refine v_call (pc := 4) (d_V (pc := 4) C (As := [.int a1]) (rest := [.int (0 : Int32), va_rf a2]) rb1 kb1 nt_0 q2144 yi_X1_brokenWeight_FigureSurvey yk_X1_brokenWeight rfl (by decide) (by decide) (Nat.le_trans (aw_i (aw_r aw_0)) (by decide)) rfl (mX1_brokenWeight C.st ex2) dX0_brokenWeight_4) ?_
  refine v_i2l (pc := 7) C dX0_brokenWeight_7 ?_
  obtain ⟨h4, eh4, hf⟩ := oB hf
  refine v_lastore (pc := 8) C eh4 dX0_brokenWeight_8 ?_
  refine v_goto (pc := 9) (tgt := 15) C dX0_brokenWeight_9 rfl ?_
  refine v_iconst (pc := 15) (v := (0 : Int32)) C dX0_brokenWeight_15 rfl ?_
  cases hf
  exact v_wret (pc := 16) X dX0_brokenWeight_16
theorem mX0_brokenWeight {l : Launch} {D : aD} {h : aH} {a0 : Option Nat} {a1 : Int32} {a2 : Option Nat} {q : Int32} {g : aH} (hst : l.stackTraces = false) (hf : fX0_brokenWeight D h a0 a1 a2 = some (q, g)) : aMw l D yX0_brokenWeight cX0_brokenWeight 4 [(0, 9, 12, 21)] 13 3161 [va_rf a0, .int a1, va_rf a2] h q g :=
  aMw.of [(false, va_rf a0), (false, .int a1), (false, va_rf a2)] rfl (ap_r (ap_c rfl (ap_r ap_0))) (by decide +kernel) hst (al_of (aw_r (aw_i (aw_r aw_0))) (by decide)) fun p e s m args below meth c X => V.sub (lv' := [(0, false, va_rf a0), (1, false, .int a1), (2, false, va_rf a2)]) [0, 1, 2] rfl (vX0_brokenWeight X hf)
def fX0_isAbove_p16 (D : aD) (h : aH) (t0 : Option Nat) (t1 : Int32) (t2 : Int64) : Option (Int32 × aH) :=
  (sF D h 101 t0 t1 (.long t2)).bind fun h1 =>
  some ((0 : Int32), h1)
theorem vX0_isAbove_p16 {h : aH} {t0 : Option Nat} {t1 : Int32} {t2 : Int64} {q : Int32} {g : aH} (X : aXw p l R s m meth c D n0 s0 yX0_isAbove cX0_isAbove 14 3188 5 [(0, 17, 20, 21)] h0) (hf : fX0_isAbove_p16 D h t0 t1 t2 = some (q, g)) : V p l e R s m args below meth c D n0 s0 (aEndw D below args s h0 q g) h 16 [] [.long t2, .int t1, va_rf t0] := by
  have C := X.1
  unfold fX0_isAbove_p16 at hf
  obtain ⟨h1, eh1, hf⟩ := oB hf
  refine v_lastore (pc := 16) C eh1 dX0_isAbove_16 ?_
  refine v_goto (pc := 17) (tgt := 24) C dX0_isAbove_17 rfl ?_
  refine v_iconst (pc := 24) (v := (0 : Int32)) C dX0_isAbove_24 rfl ?_
  cases hf
  exact v_wret (pc := 25) X dX0_isAbove_25
def fX0_isAbove (D : aD) (h : aH) (a0 : Option Nat) (a1 : Int32) (a2 : Int32) (a3 : Option Nat) : Option (Int32 × aH) :=
  (aIs h 0 a0).bind fun _ =>
  bndW (fX1_isAbove D h a0 a1 a2) (fun k => if k = 1 then some (1 : Int32) else none) fun x2 h3 =>
  fX0_isAbove_p16 D h3 a3 (0 : Int32) (if x2 = 0 then (0 : Int64) else (1 : Int64))
theorem vX0_isAbove {h : aH} {a0 : Option Nat} {a1 : Int32} {a2 : Int32} {a3 : Option Nat} {q : Int32} {g : aH} (X : aXw p l R s m meth c D n0 s0 yX0_isAbove cX0_isAbove 14 3188 5 [(0, 17, 20, 21)] h) (hf : fX0_isAbove D h a0 a1 a2 a3 = some (q, g)) : V p l e R s m args below meth c D n0 s0 (aEndw D below args s h q g) h 0 [(0, false, va_rf a0), (1, false, .int a1), (2, false, .int a2), (3, false, va_rf a3)] [] := by
  have C := X.1
  unfold fX0_isAbove at hf
  refine v_aload_n (pc := 0) (j := 3) C dX0_isAbove_0 rfl rfl ?_
  refine v_iconst (pc := 1) (v := (0 : Int32)) C dX0_isAbove_1 rfl ?_
  refine v_aload_n (pc := 2) (j := 0) C dX0_isAbove_2 rfl rfl ?_
  refine v_iload_n (pc := 3) (j := 1) C dX0_isAbove_3 rfl rfl ?_
  refine v_iload_n (pc := 4) (j := 2) C dX0_isAbove_4 rfl rfl ?_
  obtain ⟨b1, eb1, hf⟩ := oB hf
  obtain ⟨rb1, _, kb1⟩ := aIs_eq eb1
  rcases bndW_eq hf with ⟨kx2, cx2, gx2, ex2, hk, qx2⟩ | ⟨x2, h3, ex2, hf⟩
  · cases qx2
    by_cases k1 : kx2 = 1
    · subst k1
      rw [if_pos rfl] at hk
      cases hk
      exact v_ofDc (pc := 5) (ek := 1) X [] [] rfl (fun _ hz => by cases hz) (by decide) (by decide) q1677 q1714 ⟨4, 2, 1, by decide, Or.inl ⟨dX0_isAbove_20, rfl⟩, dX0_isAbove_22, rfl, dX0_isAbove_23⟩ (Nat.le_refl _) (Nat.le_refl _) (d_V (pc := 5) C (As := [.int a1, .int a2]) (rest := [.int (0 : Int32), va_rf a3]) rb1 kb1 nt_0 q2152 yi_X1_isAbove_FigureSurvey yk_X1_isAbove rfl (by decide) (by decide) (Nat.le_trans (aw_i (aw_r aw_0)) (by decide)) rfl (mX1_isAbove C.st ex2) dX0_isAbove_5)
    rw [if_neg k1] at hk
    cases hk
  refine v_call (pc := 5) (d_V (pc := 5) C (As := [.int a1, .int a2]) (rest := [.int (0 : Int32), va_rf a3]) rb1 kb1 nt_0 q2152 yi_X1_isAbove_FigureSurvey yk_X1_isAbove rfl (by decide) (by decide) (Nat.le_trans (aw_i (aw_r aw_0)) (by decide)) rfl (mX1_isAbove C.st ex2) dX0_isAbove_5) ?_
  refine v_if_eq (pc := 8) (tgt := 15) C dX0_isAbove_8 rfl (fun hc => ?_) (fun hc => ?_)
  · simp only [if_pos hc] at hf
    refine v_lconst (pc := 15) (v := (0 : Int64)) C dX0_isAbove_15 rfl ?_
    exact V.sub [] rfl (vX0_isAbove_p16 X hf)
  · simp only [if_neg hc] at hf
    refine v_lconst (pc := 11) (v := (1 : Int64)) C dX0_isAbove_11 rfl ?_
    refine v_goto (pc := 12) (tgt := 16) C dX0_isAbove_12 rfl ?_
    exact V.sub [] rfl (vX0_isAbove_p16 X hf)
theorem mX0_isAbove {l : Launch} {D : aD} {h : aH} {a0 : Option Nat} {a1 : Int32} {a2 : Int32} {a3 : Option Nat} {q : Int32} {g : aH} (hst : l.stackTraces = false) (hf : fX0_isAbove D h a0 a1 a2 a3 = some (q, g)) : aMw l D yX0_isAbove cX0_isAbove 5 [(0, 17, 20, 21)] 14 3188 [va_rf a0, .int a1, .int a2, va_rf a3] h q g :=
  aMw.of [(false, va_rf a0), (false, .int a1), (false, .int a2), (false, va_rf a3)] rfl (ap_r (ap_c rfl (ap_c rfl (ap_r ap_0)))) (by decide +kernel) hst (al_of (aw_r (aw_i (aw_i (aw_r aw_0)))) (by decide)) fun p e s m args below meth c X => V.sub (lv' := [(0, false, va_rf a0), (1, false, .int a1), (2, false, .int a2), (3, false, va_rf a3)]) [0, 1, 2, 3] rfl (vX0_isAbove X hf)
def fX0_earliest (D : aD) (h : aH) (a0 : Option Nat) (a1 : Int32) (a2 : Option Nat) : Option (Int32 × aH) :=
  (aIs h 0 a0).bind fun _ =>
  bndW (fX1_earliest D h a0 a1) (fun k => if k = 1 then some (1 : Int32) else none) fun x2 h3 =>
  (sF D h3 101 a2 (0 : Int32) (.long x2.toInt64)).bind fun h4 =>
  some ((0 : Int32), h4)
theorem vX0_earliest {h : aH} {a0 : Option Nat} {a1 : Int32} {a2 : Option Nat} {q : Int32} {g : aH} (X : aXw p l R s m meth c D n0 s0 yX0_earliest cX0_earliest 26 3461 4 [(0, 9, 12, 21)] h) (hf : fX0_earliest D h a0 a1 a2 = some (q, g)) : V p l e R s m args below meth c D n0 s0 (aEndw D below args s h q g) h 0 [(0, false, va_rf a0), (1, false, .int a1), (2, false, va_rf a2)] [] := by
  have C := X.1
  unfold fX0_earliest at hf
  refine v_aload_n (pc := 0) (j := 2) C dX0_earliest_0 rfl rfl ?_
  refine v_iconst (pc := 1) (v := (0 : Int32)) C dX0_earliest_1 rfl ?_
  refine v_aload_n (pc := 2) (j := 0) C dX0_earliest_2 rfl rfl ?_
  refine v_iload_n (pc := 3) (j := 1) C dX0_earliest_3 rfl rfl ?_
  obtain ⟨b1, eb1, hf⟩ := oB hf
  obtain ⟨rb1, _, kb1⟩ := aIs_eq eb1
  rcases bndW_eq hf with ⟨kx2, cx2, gx2, ex2, hk, qx2⟩ | ⟨x2, h3, ex2, hf⟩
  · cases qx2
    by_cases k1 : kx2 = 1
    · subst k1
      rw [if_pos rfl] at hk
      cases hk
      exact v_ofDc (pc := 4) (ek := 1) X [] [] rfl (fun _ hz => by cases hz) (by decide) (by decide) q1677 q1714 ⟨3, 1, 1, by decide, Or.inr ⟨3, rfl, dX0_earliest_12, rfl⟩, dX0_earliest_13, rfl, dX0_earliest_14⟩ (Nat.le_refl _) (Nat.le_refl _) (d_V (pc := 4) C (As := [.int a1]) (rest := [.int (0 : Int32), va_rf a2]) rb1 kb1 nt_0 q2160 yi_X1_earliest_FigureSurvey yk_X1_earliest rfl (by decide) (by decide) (Nat.le_trans (aw_i (aw_r aw_0)) (by decide)) rfl (mX1_earliest C.st ex2) dX0_earliest_4)
    rw [if_neg k1] at hk
    cases hk
  refine v_call (pc := 4) (d_V (pc := 4) C (As := [.int a1]) (rest := [.int (0 : Int32), va_rf a2]) rb1 kb1 nt_0 q2160 yi_X1_earliest_FigureSurvey yk_X1_earliest rfl (by decide) (by decide) (Nat.le_trans (aw_i (aw_r aw_0)) (by decide)) rfl (mX1_earliest C.st ex2) dX0_earliest_4) ?_
  refine v_i2l (pc := 7) C dX0_earliest_7 ?_
  obtain ⟨h4, eh4, hf⟩ := oB hf
  refine v_lastore (pc := 8) C eh4 dX0_earliest_8 ?_
  refine v_goto (pc := 9) (tgt := 15) C dX0_earliest_9 rfl ?_
  refine v_iconst (pc := 15) (v := (0 : Int32)) C dX0_earliest_15 rfl ?_
  cases hf
  exact v_wret (pc := 16) X dX0_earliest_16
theorem mX0_earliest {l : Launch} {D : aD} {h : aH} {a0 : Option Nat} {a1 : Int32} {a2 : Option Nat} {q : Int32} {g : aH} (hst : l.stackTraces = false) (hf : fX0_earliest D h a0 a1 a2 = some (q, g)) : aMw l D yX0_earliest cX0_earliest 4 [(0, 9, 12, 21)] 26 3461 [va_rf a0, .int a1, va_rf a2] h q g :=
  aMw.of [(false, va_rf a0), (false, .int a1), (false, va_rf a2)] rfl (ap_r (ap_c rfl (ap_r ap_0))) (by decide +kernel) hst (al_of (aw_r (aw_i (aw_r aw_0))) (by decide)) fun p e s m args below meth c X => V.sub (lv' := [(0, false, va_rf a0), (1, false, .int a1), (2, false, va_rf a2)]) [0, 1, 2] rfl (vX0_earliest X hf)
def fX0_latest (D : aD) (h : aH) (a0 : Option Nat) (a1 : Int32) (a2 : Option Nat) : Option (Int32 × aH) :=
  (aIs h 0 a0).bind fun _ =>
  bndW (fX1_latest D h a0 a1) (fun k => if k = 1 then some (1 : Int32) else none) fun x2 h3 =>
  (sF D h3 101 a2 (0 : Int32) (.long x2.toInt64)).bind fun h4 =>
  some ((0 : Int32), h4)
theorem vX0_latest {h : aH} {a0 : Option Nat} {a1 : Int32} {a2 : Option Nat} {q : Int32} {g : aH} (X : aXw p l R s m meth c D n0 s0 yX0_latest cX0_latest 26 3461 4 [(0, 9, 12, 21)] h) (hf : fX0_latest D h a0 a1 a2 = some (q, g)) : V p l e R s m args below meth c D n0 s0 (aEndw D below args s h q g) h 0 [(0, false, va_rf a0), (1, false, .int a1), (2, false, va_rf a2)] [] := by
  have C := X.1
  unfold fX0_latest at hf
  refine v_aload_n (pc := 0) (j := 2) C dX0_latest_0 rfl rfl ?_
  refine v_iconst (pc := 1) (v := (0 : Int32)) C dX0_latest_1 rfl ?_
  refine v_aload_n (pc := 2) (j := 0) C dX0_latest_2 rfl rfl ?_
  refine v_iload_n (pc := 3) (j := 1) C dX0_latest_3 rfl rfl ?_
  obtain ⟨b1, eb1, hf⟩ := oB hf
  obtain ⟨rb1, _, kb1⟩ := aIs_eq eb1
  rcases bndW_eq hf with ⟨kx2, cx2, gx2, ex2, hk, qx2⟩ | ⟨x2, h3, ex2, hf⟩
  · cases qx2
    by_cases k1 : kx2 = 1
    · subst k1
      rw [if_pos rfl] at hk
      cases hk
      exact v_ofDc (pc := 4) (ek := 1) X [] [] rfl (fun _ hz => by cases hz) (by decide) (by decide) q1677 q1714 ⟨3, 1, 1, by decide, Or.inr ⟨3, rfl, dX0_latest_12, rfl⟩, dX0_latest_13, rfl, dX0_latest_14⟩ (Nat.le_refl _) (Nat.le_refl _) (d_V (pc := 4) C (As := [.int a1]) (rest := [.int (0 : Int32), va_rf a2]) rb1 kb1 nt_0 q2167 yi_X1_latest_FigureSurvey yk_X1_latest rfl (by decide) (by decide) (Nat.le_trans (aw_i (aw_r aw_0)) (by decide)) rfl (mX1_latest C.st ex2) dX0_latest_4)
    rw [if_neg k1] at hk
    cases hk
  refine v_call (pc := 4) (d_V (pc := 4) C (As := [.int a1]) (rest := [.int (0 : Int32), va_rf a2]) rb1 kb1 nt_0 q2167 yi_X1_latest_FigureSurvey yk_X1_latest rfl (by decide) (by decide) (Nat.le_trans (aw_i (aw_r aw_0)) (by decide)) rfl (mX1_latest C.st ex2) dX0_latest_4) ?_
  refine v_i2l (pc := 7) C dX0_latest_7 ?_
  obtain ⟨h4, eh4, hf⟩ := oB hf
  refine v_lastore (pc := 8) C eh4 dX0_latest_8 ?_
  refine v_goto (pc := 9) (tgt := 15) C dX0_latest_9 rfl ?_
  refine v_iconst (pc := 15) (v := (0 : Int32)) C dX0_latest_15 rfl ?_
  cases hf
  exact v_wret (pc := 16) X dX0_latest_16
theorem mX0_latest {l : Launch} {D : aD} {h : aH} {a0 : Option Nat} {a1 : Int32} {a2 : Option Nat} {q : Int32} {g : aH} (hst : l.stackTraces = false) (hf : fX0_latest D h a0 a1 a2 = some (q, g)) : aMw l D yX0_latest cX0_latest 4 [(0, 9, 12, 21)] 26 3461 [va_rf a0, .int a1, va_rf a2] h q g :=
  aMw.of [(false, va_rf a0), (false, .int a1), (false, va_rf a2)] rfl (ap_r (ap_c rfl (ap_r ap_0))) (by decide +kernel) hst (al_of (aw_r (aw_i (aw_r aw_0))) (by decide)) fun p e s m args below meth c X => V.sub (lv' := [(0, false, va_rf a0), (1, false, .int a1), (2, false, va_rf a2)]) [0, 1, 2] rfl (vX0_latest X hf)
def fX0_reasonFor (D : aD) (h : aH) (a0 : Option Nat) (a1 : Int32) (a2 : Int32) (a3 : Option Nat) : Option (Int32 × aH) :=
  (aIs h 0 a0).bind fun _ =>
  bndW (fX1_reasonFor D h a0 a1 a2) (fun k => if k = 1 then some (1 : Int32) else none) fun x2 h3 =>
  (sF D h3 101 a3 (0 : Int32) (.long x2.toInt64)).bind fun h4 =>
  some ((0 : Int32), h4)
theorem vX0_reasonFor {h : aH} {a0 : Option Nat} {a1 : Int32} {a2 : Int32} {a3 : Option Nat} {q : Int32} {g : aH} (X : aXw p l R s m meth c D n0 s0 yX0_reasonFor cX0_reasonFor 25 3440 5 [(0, 10, 13, 21)] h) (hf : fX0_reasonFor D h a0 a1 a2 a3 = some (q, g)) : V p l e R s m args below meth c D n0 s0 (aEndw D below args s h q g) h 0 [(0, false, va_rf a0), (1, false, .int a1), (2, false, .int a2), (3, false, va_rf a3)] [] := by
  have C := X.1
  unfold fX0_reasonFor at hf
  refine v_aload_n (pc := 0) (j := 3) C dX0_reasonFor_0 rfl rfl ?_
  refine v_iconst (pc := 1) (v := (0 : Int32)) C dX0_reasonFor_1 rfl ?_
  refine v_aload_n (pc := 2) (j := 0) C dX0_reasonFor_2 rfl rfl ?_
  refine v_iload_n (pc := 3) (j := 1) C dX0_reasonFor_3 rfl rfl ?_
  refine v_iload_n (pc := 4) (j := 2) C dX0_reasonFor_4 rfl rfl ?_
  obtain ⟨b1, eb1, hf⟩ := oB hf
  obtain ⟨rb1, _, kb1⟩ := aIs_eq eb1
  rcases bndW_eq hf with ⟨kx2, cx2, gx2, ex2, hk, qx2⟩ | ⟨x2, h3, ex2, hf⟩
  · cases qx2
    by_cases k1 : kx2 = 1
    · subst k1
      rw [if_pos rfl] at hk
      cases hk
      exact v_ofDc (pc := 5) (ek := 1) X [] [] rfl (fun _ hz => by cases hz) (by decide) (by decide) q1677 q1714 ⟨4, 2, 1, by decide, Or.inl ⟨dX0_reasonFor_13, rfl⟩, dX0_reasonFor_15, rfl, dX0_reasonFor_16⟩ (Nat.le_refl _) (Nat.le_refl _) (d_V (pc := 5) C (As := [.int a1, .int a2]) (rest := [.int (0 : Int32), va_rf a3]) rb1 kb1 nt_0 q2174 yi_X1_reasonFor_FigureSurvey yk_X1_reasonFor rfl (by decide) (by decide) (Nat.le_trans (aw_i (aw_r aw_0)) (by decide)) rfl (mX1_reasonFor C.st ex2) dX0_reasonFor_5)
    rw [if_neg k1] at hk
    cases hk
  refine v_call (pc := 5) (d_V (pc := 5) C (As := [.int a1, .int a2]) (rest := [.int (0 : Int32), va_rf a3]) rb1 kb1 nt_0 q2174 yi_X1_reasonFor_FigureSurvey yk_X1_reasonFor rfl (by decide) (by decide) (Nat.le_trans (aw_i (aw_r aw_0)) (by decide)) rfl (mX1_reasonFor C.st ex2) dX0_reasonFor_5) ?_
  refine v_i2l (pc := 8) C dX0_reasonFor_8 ?_
  obtain ⟨h4, eh4, hf⟩ := oB hf
  refine v_lastore (pc := 9) C eh4 dX0_reasonFor_9 ?_
  refine v_goto (pc := 10) (tgt := 17) C dX0_reasonFor_10 rfl ?_
  refine v_iconst (pc := 17) (v := (0 : Int32)) C dX0_reasonFor_17 rfl ?_
  cases hf
  exact v_wret (pc := 18) X dX0_reasonFor_18
theorem mX0_reasonFor {l : Launch} {D : aD} {h : aH} {a0 : Option Nat} {a1 : Int32} {a2 : Int32} {a3 : Option Nat} {q : Int32} {g : aH} (hst : l.stackTraces = false) (hf : fX0_reasonFor D h a0 a1 a2 a3 = some (q, g)) : aMw l D yX0_reasonFor cX0_reasonFor 5 [(0, 10, 13, 21)] 25 3440 [va_rf a0, .int a1, .int a2, va_rf a3] h q g :=
  aMw.of [(false, va_rf a0), (false, .int a1), (false, .int a2), (false, va_rf a3)] rfl (ap_r (ap_c rfl (ap_c rfl (ap_r ap_0)))) (by decide +kernel) hst (al_of (aw_r (aw_i (aw_i (aw_r aw_0)))) (by decide)) fun p e s m args below meth c X => V.sub (lv' := [(0, false, va_rf a0), (1, false, .int a1), (2, false, .int a2), (3, false, va_rf a3)]) [0, 1, 2, 3] rfl (vX0_reasonFor X hf)
def fX0_addEntry (D : aD) (h : aH) (a0 : Option Nat) (a1 : Int32) (a2 : Int32) (a3 : Option Nat) : Option (Int32 × aH) :=
  (aIs h 0 a0).bind fun _ =>
  bndW (fX1_addEntry D h a0 a1 a2) (fun k => if k = 1 then some (1 : Int32) else if k = 2 then some (2 : Int32) else if k = 3 then some (3 : Int32) else none) fun x2 h3 =>
  (sF D h3 101 a3 (0 : Int32) (.long x2.toInt64)).bind fun h4 =>
  some ((0 : Int32), h4)
theorem vX0_addEntry {h : aH} {a0 : Option Nat} {a1 : Int32} {a2 : Int32} {a3 : Option Nat} {q : Int32} {g : aH} (X : aXw p l R s m meth c D n0 s0 yX0_addEntry cX0_addEntry 9 3098 5 [(0, 10, 13, 21), (0, 10, 17, 13), (0, 10, 21, 15)] h) (hf : fX0_addEntry D h a0 a1 a2 a3 = some (q, g)) : V p l e R s m args below meth c D n0 s0 (aEndw D below args s h q g) h 0 [(0, false, va_rf a0), (1, false, .int a1), (2, false, .int a2), (3, false, va_rf a3)] [] := by
  have C := X.1
  unfold fX0_addEntry at hf
  refine v_aload_n (pc := 0) (j := 3) C dX0_addEntry_0 rfl rfl ?_
  refine v_iconst (pc := 1) (v := (0 : Int32)) C dX0_addEntry_1 rfl ?_
  refine v_aload_n (pc := 2) (j := 0) C dX0_addEntry_2 rfl rfl ?_
  refine v_iload_n (pc := 3) (j := 1) C dX0_addEntry_3 rfl rfl ?_
  refine v_iload_n (pc := 4) (j := 2) C dX0_addEntry_4 rfl rfl ?_
  obtain ⟨b1, eb1, hf⟩ := oB hf
  obtain ⟨rb1, _, kb1⟩ := aIs_eq eb1
  rcases bndW_eq hf with ⟨kx2, cx2, gx2, ex2, hk, qx2⟩ | ⟨x2, h3, ex2, hf⟩
  · cases qx2
    by_cases k1 : kx2 = 1
    · subst k1
      rw [if_pos rfl] at hk
      cases hk
      exact v_ofDc (pc := 5) (ek := 1) X [] [(0, 10, 17, 13), (0, 10, 21, 15)] rfl (fun _ hz => by cases hz) (by decide) (by decide) q1677 q1714 ⟨4, 2, 1, by decide, Or.inl ⟨dX0_addEntry_13, rfl⟩, dX0_addEntry_15, rfl, dX0_addEntry_16⟩ (Nat.le_refl _) (Nat.le_refl _) (d_V (pc := 5) C (As := [.int a1, .int a2]) (rest := [.int (0 : Int32), va_rf a3]) rb1 kb1 nt_0 q2214 yi_X1_addEntry_FigureSurvey yk_X1_addEntry rfl (by decide) (by decide) (Nat.le_trans (aw_i (aw_r aw_0)) (by decide)) rfl (mX1_addEntry C.st ex2) dX0_addEntry_5)
    rw [if_neg k1] at hk
    by_cases k2 : kx2 = 2
    · subst k2
      rw [if_pos rfl] at hk
      cases hk
      exact v_ofDc (pc := 5) (ek := 2) X [(0, 10, 13, 21)] [(0, 10, 21, 15)] rfl (List.forall_mem_cons.mpr ⟨⟨by decide, _, q1677, by decide +kernel⟩, fun _ hz => by cases hz⟩) (by decide) (by decide) q1572 q294 ⟨4, 2, 2, by decide, Or.inl ⟨dX0_addEntry_17, rfl⟩, dX0_addEntry_19, rfl, dX0_addEntry_20⟩ (Nat.le_refl _) (Nat.le_refl _) (d_V (pc := 5) C (As := [.int a1, .int a2]) (rest := [.int (0 : Int32), va_rf a3]) rb1 kb1 nt_0 q2214 yi_X1_addEntry_FigureSurvey yk_X1_addEntry rfl (by decide) (by decide) (Nat.le_trans (aw_i (aw_r aw_0)) (by decide)) rfl (mX1_addEntry C.st ex2) dX0_addEntry_5)
    rw [if_neg k2] at hk
    by_cases k3 : kx2 = 3
    · subst k3
      rw [if_pos rfl] at hk
      cases hk
      exact v_ofDc (pc := 5) (ek := 3) X [(0, 10, 13, 21), (0, 10, 17, 13)] [] rfl (List.forall_mem_cons.mpr ⟨⟨by decide, _, q1677, by decide +kernel⟩, List.forall_mem_cons.mpr ⟨⟨by decide, _, q1572, by decide +kernel⟩, fun _ hz => by cases hz⟩⟩) (by decide) (by decide) q1573 q1600 ⟨4, 2, 3, by decide, Or.inl ⟨dX0_addEntry_21, rfl⟩, dX0_addEntry_23, rfl, dX0_addEntry_24⟩ (Nat.le_refl _) (Nat.le_refl _) (d_V (pc := 5) C (As := [.int a1, .int a2]) (rest := [.int (0 : Int32), va_rf a3]) rb1 kb1 nt_0 q2214 yi_X1_addEntry_FigureSurvey yk_X1_addEntry rfl (by decide) (by decide) (Nat.le_trans (aw_i (aw_r aw_0)) (by decide)) rfl (mX1_addEntry C.st ex2) dX0_addEntry_5)
    rw [if_neg k3] at hk
    cases hk
  refine v_call (pc := 5) (d_V (pc := 5) C (As := [.int a1, .int a2]) (rest := [.int (0 : Int32), va_rf a3]) rb1 kb1 nt_0 q2214 yi_X1_addEntry_FigureSurvey yk_X1_addEntry rfl (by decide) (by decide) (Nat.le_trans (aw_i (aw_r aw_0)) (by decide)) rfl (mX1_addEntry C.st ex2) dX0_addEntry_5) ?_
  refine v_i2l (pc := 8) C dX0_addEntry_8 ?_
  obtain ⟨h4, eh4, hf⟩ := oB hf
  refine v_lastore (pc := 9) C eh4 dX0_addEntry_9 ?_
  refine v_goto (pc := 10) (tgt := 25) C dX0_addEntry_10 rfl ?_
  refine v_iconst (pc := 25) (v := (0 : Int32)) C dX0_addEntry_25 rfl ?_
  cases hf
  exact v_wret (pc := 26) X dX0_addEntry_26
theorem mX0_addEntry {l : Launch} {D : aD} {h : aH} {a0 : Option Nat} {a1 : Int32} {a2 : Int32} {a3 : Option Nat} {q : Int32} {g : aH} (hst : l.stackTraces = false) (hf : fX0_addEntry D h a0 a1 a2 a3 = some (q, g)) : aMw l D yX0_addEntry cX0_addEntry 5 [(0, 10, 13, 21), (0, 10, 17, 13), (0, 10, 21, 15)] 9 3098 [va_rf a0, .int a1, .int a2, va_rf a3] h q g :=
  aMw.of [(false, va_rf a0), (false, .int a1), (false, .int a2), (false, va_rf a3)] rfl (ap_r (ap_c rfl (ap_c rfl (ap_r ap_0)))) (by decide +kernel) hst (al_of (aw_r (aw_i (aw_i (aw_r aw_0)))) (by decide)) fun p e s m args below meth c X => V.sub (lv' := [(0, false, va_rf a0), (1, false, .int a1), (2, false, .int a2), (3, false, va_rf a3)]) [0, 1, 2, 3] rfl (vX0_addEntry X hf)
def fX0_figureFor (D : aD) (h : aH) (a0 : Option Nat) (a1 : Int32) (a2 : Option Nat) : Option (Int32 × aH) :=
  (aIs h 0 a0).bind fun _ =>
  bndW (fX1_figureFor D h a0 a1) (fun k => if k = 1 then some (1 : Int32) else none) fun x2 h3 =>
  (sF D h3 101 a2 (0 : Int32) (.long x2.toInt64)).bind fun h4 =>
  some ((0 : Int32), h4)
theorem vX0_figureFor {h : aH} {a0 : Option Nat} {a1 : Int32} {a2 : Option Nat} {q : Int32} {g : aH} (X : aXw p l R s m meth c D n0 s0 yX0_figureFor cX0_figureFor 13 3167 4 [(0, 9, 12, 21)] h) (hf : fX0_figureFor D h a0 a1 a2 = some (q, g)) : V p l e R s m args below meth c D n0 s0 (aEndw D below args s h q g) h 0 [(0, false, va_rf a0), (1, false, .int a1), (2, false, va_rf a2)] [] := by
  have C := X.1
  unfold fX0_figureFor at hf
  refine v_aload_n (pc := 0) (j := 2) C dX0_figureFor_0 rfl rfl ?_
  refine v_iconst (pc := 1) (v := (0 : Int32)) C dX0_figureFor_1 rfl ?_
  refine v_aload_n (pc := 2) (j := 0) C dX0_figureFor_2 rfl rfl ?_
  refine v_iload_n (pc := 3) (j := 1) C dX0_figureFor_3 rfl rfl ?_
  obtain ⟨b1, eb1, hf⟩ := oB hf
  obtain ⟨rb1, _, kb1⟩ := aIs_eq eb1
  rcases bndW_eq hf with ⟨kx2, cx2, gx2, ex2, hk, qx2⟩ | ⟨x2, h3, ex2, hf⟩
  · cases qx2
    by_cases k1 : kx2 = 1
    · subst k1
      rw [if_pos rfl] at hk
      cases hk
      exact v_ofDc (pc := 4) (ek := 1) X [] [] rfl (fun _ hz => by cases hz) (by decide) (by decide) q1677 q1714 ⟨3, 1, 1, by decide, Or.inr ⟨3, rfl, dX0_figureFor_12, rfl⟩, dX0_figureFor_13, rfl, dX0_figureFor_14⟩ (Nat.le_refl _) (Nat.le_refl _) (d_V (pc := 4) C (As := [.int a1]) (rest := [.int (0 : Int32), va_rf a2]) rb1 kb1 nt_0 q2239 yi_X1_figureFor_FigureSurvey yk_X1_figureFor rfl (by decide) (by decide) (Nat.le_trans (aw_i (aw_r aw_0)) (by decide)) rfl (mX1_figureFor C.st ex2) dX0_figureFor_4)
    rw [if_neg k1] at hk
    cases hk
  refine v_call (pc := 4) (d_V (pc := 4) C (As := [.int a1]) (rest := [.int (0 : Int32), va_rf a2]) rb1 kb1 nt_0 q2239 yi_X1_figureFor_FigureSurvey yk_X1_figureFor rfl (by decide) (by decide) (Nat.le_trans (aw_i (aw_r aw_0)) (by decide)) rfl (mX1_figureFor C.st ex2) dX0_figureFor_4) ?_
  refine v_i2l (pc := 7) C dX0_figureFor_7 ?_
  obtain ⟨h4, eh4, hf⟩ := oB hf
  refine v_lastore (pc := 8) C eh4 dX0_figureFor_8 ?_
  refine v_goto (pc := 9) (tgt := 15) C dX0_figureFor_9 rfl ?_
  refine v_iconst (pc := 15) (v := (0 : Int32)) C dX0_figureFor_15 rfl ?_
  cases hf
  exact v_wret (pc := 16) X dX0_figureFor_16
theorem mX0_figureFor {l : Launch} {D : aD} {h : aH} {a0 : Option Nat} {a1 : Int32} {a2 : Option Nat} {q : Int32} {g : aH} (hst : l.stackTraces = false) (hf : fX0_figureFor D h a0 a1 a2 = some (q, g)) : aMw l D yX0_figureFor cX0_figureFor 4 [(0, 9, 12, 21)] 13 3167 [va_rf a0, .int a1, va_rf a2] h q g :=
  aMw.of [(false, va_rf a0), (false, .int a1), (false, va_rf a2)] rfl (ap_r (ap_c rfl (ap_r ap_0))) (by decide +kernel) hst (al_of (aw_r (aw_i (aw_r aw_0))) (by decide)) fun p e s m args below meth c X => V.sub (lv' := [(0, false, va_rf a0), (1, false, .int a1), (2, false, va_rf a2)]) [0, 1, 2] rfl (vX0_figureFor X hf)
def fX0_repaint (D : aD) (h : aH) (a0 : Option Nat) (a1 : Int32) (a2 : Int32) (a3 : Option Nat) : Option (Int32 × aH) :=
  (aIs h 0 a0).bind fun _ =>
  bndW (fX1_repaint D h a0 a1 a2) (fun k => if k = 1 then some (1 : Int32) else if k = 2 then some (2 : Int32) else if k = 3 then some (3 : Int32) else none) fun x2 h3 =>
  (sF D h3 101 a3 (0 : Int32) (.long x2.toInt64)).bind fun h4 =>
  some ((0 : Int32), h4)
theorem vX0_repaint {h : aH} {a0 : Option Nat} {a1 : Int32} {a2 : Int32} {a3 : Option Nat} {q : Int32} {g : aH} (X : aXw p l R s m meth c D n0 s0 yX0_repaint cX0_repaint 12 3142 5 [(0, 10, 13, 21), (0, 10, 17, 13), (0, 10, 21, 15)] h) (hf : fX0_repaint D h a0 a1 a2 a3 = some (q, g)) : V p l e R s m args below meth c D n0 s0 (aEndw D below args s h q g) h 0 [(0, false, va_rf a0), (1, false, .int a1), (2, false, .int a2), (3, false, va_rf a3)] [] := by
  have C := X.1
  unfold fX0_repaint at hf
  refine v_aload_n (pc := 0) (j := 3) C dX0_repaint_0 rfl rfl ?_
  refine v_iconst (pc := 1) (v := (0 : Int32)) C dX0_repaint_1 rfl ?_
  refine v_aload_n (pc := 2) (j := 0) C dX0_repaint_2 rfl rfl ?_
  refine v_iload_n (pc := 3) (j := 1) C dX0_repaint_3 rfl rfl ?_
  refine v_iload_n (pc := 4) (j := 2) C dX0_repaint_4 rfl rfl ?_
  obtain ⟨b1, eb1, hf⟩ := oB hf
  obtain ⟨rb1, _, kb1⟩ := aIs_eq eb1
  rcases bndW_eq hf with ⟨kx2, cx2, gx2, ex2, hk, qx2⟩ | ⟨x2, h3, ex2, hf⟩
  · cases qx2
    by_cases k1 : kx2 = 1
    · subst k1
      rw [if_pos rfl] at hk
      cases hk
      exact v_ofDc (pc := 5) (ek := 1) X [] [(0, 10, 17, 13), (0, 10, 21, 15)] rfl (fun _ hz => by cases hz) (by decide) (by decide) q1677 q1714 ⟨4, 2, 1, by decide, Or.inl ⟨dX0_repaint_13, rfl⟩, dX0_repaint_15, rfl, dX0_repaint_16⟩ (Nat.le_refl _) (Nat.le_refl _) (d_V (pc := 5) C (As := [.int a1, .int a2]) (rest := [.int (0 : Int32), va_rf a3]) rb1 kb1 nt_0 q2302 yi_X1_repaint_FigureSurvey yk_X1_repaint rfl (by decide) (by decide) (Nat.le_trans (aw_i (aw_r aw_0)) (by decide)) rfl (mX1_repaint C.st ex2) dX0_repaint_5)
    rw [if_neg k1] at hk
    by_cases k2 : kx2 = 2
    · subst k2
      rw [if_pos rfl] at hk
      cases hk
      exact v_ofDc (pc := 5) (ek := 2) X [(0, 10, 13, 21)] [(0, 10, 21, 15)] rfl (List.forall_mem_cons.mpr ⟨⟨by decide, _, q1677, by decide +kernel⟩, fun _ hz => by cases hz⟩) (by decide) (by decide) q1572 q294 ⟨4, 2, 2, by decide, Or.inl ⟨dX0_repaint_17, rfl⟩, dX0_repaint_19, rfl, dX0_repaint_20⟩ (Nat.le_refl _) (Nat.le_refl _) (d_V (pc := 5) C (As := [.int a1, .int a2]) (rest := [.int (0 : Int32), va_rf a3]) rb1 kb1 nt_0 q2302 yi_X1_repaint_FigureSurvey yk_X1_repaint rfl (by decide) (by decide) (Nat.le_trans (aw_i (aw_r aw_0)) (by decide)) rfl (mX1_repaint C.st ex2) dX0_repaint_5)
    rw [if_neg k2] at hk
    by_cases k3 : kx2 = 3
    · subst k3
      rw [if_pos rfl] at hk
      cases hk
      exact v_ofDc (pc := 5) (ek := 3) X [(0, 10, 13, 21), (0, 10, 17, 13)] [] rfl (List.forall_mem_cons.mpr ⟨⟨by decide, _, q1677, by decide +kernel⟩, List.forall_mem_cons.mpr ⟨⟨by decide, _, q1572, by decide +kernel⟩, fun _ hz => by cases hz⟩⟩) (by decide) (by decide) q1573 q1600 ⟨4, 2, 3, by decide, Or.inl ⟨dX0_repaint_21, rfl⟩, dX0_repaint_23, rfl, dX0_repaint_24⟩ (Nat.le_refl _) (Nat.le_refl _) (d_V (pc := 5) C (As := [.int a1, .int a2]) (rest := [.int (0 : Int32), va_rf a3]) rb1 kb1 nt_0 q2302 yi_X1_repaint_FigureSurvey yk_X1_repaint rfl (by decide) (by decide) (Nat.le_trans (aw_i (aw_r aw_0)) (by decide)) rfl (mX1_repaint C.st ex2) dX0_repaint_5)
    rw [if_neg k3] at hk
    cases hk
  refine v_call (pc := 5) (d_V (pc := 5) C (As := [.int a1, .int a2]) (rest := [.int (0 : Int32), va_rf a3]) rb1 kb1 nt_0 q2302 yi_X1_repaint_FigureSurvey yk_X1_repaint rfl (by decide) (by decide) (Nat.le_trans (aw_i (aw_r aw_0)) (by decide)) rfl (mX1_repaint C.st ex2) dX0_repaint_5) ?_
  refine v_i2l (pc := 8) C dX0_repaint_8 ?_
  obtain ⟨h4, eh4, hf⟩ := oB hf
  refine v_lastore (pc := 9) C eh4 dX0_repaint_9 ?_
  refine v_goto (pc := 10) (tgt := 25) C dX0_repaint_10 rfl ?_
  refine v_iconst (pc := 25) (v := (0 : Int32)) C dX0_repaint_25 rfl ?_
  cases hf
  exact v_wret (pc := 26) X dX0_repaint_26
theorem mX0_repaint {l : Launch} {D : aD} {h : aH} {a0 : Option Nat} {a1 : Int32} {a2 : Int32} {a3 : Option Nat} {q : Int32} {g : aH} (hst : l.stackTraces = false) (hf : fX0_repaint D h a0 a1 a2 a3 = some (q, g)) : aMw l D yX0_repaint cX0_repaint 5 [(0, 10, 13, 21), (0, 10, 17, 13), (0, 10, 21, 15)] 12 3142 [va_rf a0, .int a1, .int a2, va_rf a3] h q g :=
  aMw.of [(false, va_rf a0), (false, .int a1), (false, .int a2), (false, va_rf a3)] rfl (ap_r (ap_c rfl (ap_c rfl (ap_r ap_0)))) (by decide +kernel) hst (al_of (aw_r (aw_i (aw_i (aw_r aw_0)))) (by decide)) fun p e s m args below meth c X => V.sub (lv' := [(0, false, va_rf a0), (1, false, .int a1), (2, false, .int a2), (3, false, va_rf a3)]) [0, 1, 2, 3] rfl (vX0_repaint X hf)
def fX0_worksFor (D : aD) (h : aH) (a0 : Option Nat) (a1 : Int32) (a2 : Option Nat) : Option (Int32 × aH) :=
  (aIs h 0 a0).bind fun _ =>
  bndW (fX1_worksFor D h a0 a1) (fun k => if k = 2 then some (1 : Int32) else none) fun x2 h3 =>
  (sF D h3 101 a2 (0 : Int32) (.long x2.toInt64)).bind fun h4 =>
  some ((0 : Int32), h4)
theorem vX0_worksFor {h : aH} {a0 : Option Nat} {a1 : Int32} {a2 : Option Nat} {q : Int32} {g : aH} (X : aXw p l R s m meth c D n0 s0 yX0_worksFor cX0_worksFor 17 3255 4 [(0, 9, 12, 13)] h) (hf : fX0_worksFor D h a0 a1 a2 = some (q, g)) : V p l e R s m args below meth c D n0 s0 (aEndw D below args s h q g) h 0 [(0, false, va_rf a0), (1, false, .int a1), (2, false, va_rf a2)] [] := by
  have C := X.1
  unfold fX0_worksFor at hf
  refine v_aload_n (pc := 0) (j := 2) C dX0_worksFor_0 rfl rfl ?_
  refine v_iconst (pc := 1) (v := (0 : Int32)) C dX0_worksFor_1 rfl ?_
  refine v_aload_n (pc := 2) (j := 0) C dX0_worksFor_2 rfl rfl ?_
  refine v_iload_n (pc := 3) (j := 1) C dX0_worksFor_3 rfl rfl ?_
  obtain ⟨b1, eb1, hf⟩ := oB hf
  obtain ⟨rb1, _, kb1⟩ := aIs_eq eb1
  rcases bndW_eq hf with ⟨kx2, cx2, gx2, ex2, hk, qx2⟩ | ⟨x2, h3, ex2, hf⟩
  · cases qx2
    by_cases k2 : kx2 = 2
    · subst k2
      rw [if_pos rfl] at hk
      cases hk
      exact v_ofDc (pc := 4) (ek := 2) X [] [] rfl (fun _ hz => by cases hz) (by decide) (by decide) q1572 q294 ⟨3, 1, 1, by decide, Or.inr ⟨3, rfl, dX0_worksFor_12, rfl⟩, dX0_worksFor_13, rfl, dX0_worksFor_14⟩ (Nat.le_refl _) (Nat.le_refl _) (d_V (pc := 4) C (As := [.int a1]) (rest := [.int (0 : Int32), va_rf a2]) rb1 kb1 nt_0 q2365 yi_X1_worksFor_FigureSurvey yk_X1_worksFor rfl (by decide) (by decide) (Nat.le_trans (aw_i (aw_r aw_0)) (by decide)) rfl (mX1_worksFor C.st ex2) dX0_worksFor_4)
    rw [if_neg k2] at hk
    cases hk
  refine v_call (pc := 4) (d_V (pc := 4) C (As := [.int a1]) (rest := [.int (0 : Int32), va_rf a2]) rb1 kb1 nt_0 q2365 yi_X1_worksFor_FigureSurvey yk_X1_worksFor rfl (by decide) (by decide) (Nat.le_trans (aw_i (aw_r aw_0)) (by decide)) rfl (mX1_worksFor C.st ex2) dX0_worksFor_4) ?_
  refine v_i2l (pc := 7) C dX0_worksFor_7 ?_
  obtain ⟨h4, eh4, hf⟩ := oB hf
  refine v_lastore (pc := 8) C eh4 dX0_worksFor_8 ?_
  refine v_goto (pc := 9) (tgt := 15) C dX0_worksFor_9 rfl ?_
  refine v_iconst (pc := 15) (v := (0 : Int32)) C dX0_worksFor_15 rfl ?_
  cases hf
  exact v_wret (pc := 16) X dX0_worksFor_16
theorem mX0_worksFor {l : Launch} {D : aD} {h : aH} {a0 : Option Nat} {a1 : Int32} {a2 : Option Nat} {q : Int32} {g : aH} (hst : l.stackTraces = false) (hf : fX0_worksFor D h a0 a1 a2 = some (q, g)) : aMw l D yX0_worksFor cX0_worksFor 4 [(0, 9, 12, 13)] 17 3255 [va_rf a0, .int a1, va_rf a2] h q g :=
  aMw.of [(false, va_rf a0), (false, .int a1), (false, va_rf a2)] rfl (ap_r (ap_c rfl (ap_r ap_0))) (by decide +kernel) hst (al_of (aw_r (aw_i (aw_r aw_0))) (by decide)) fun p e s m args below meth c X => V.sub (lv' := [(0, false, va_rf a0), (1, false, .int a1), (2, false, va_rf a2)]) [0, 1, 2] rfl (vX0_worksFor X hf)
def fX0_doWorks (D : aD) (h : aH) (a0 : Option Nat) (a1 : Int32) (a2 : Option Nat) : Option (Int32 × aH) :=
  (aIs h 0 a0).bind fun _ =>
  bndW (fX1_doWorks D h a0 a1) (fun k => if k = 2 then some (1 : Int32) else if k = 3 then some (2 : Int32) else none) fun x2 h3 =>
  (sF D h3 101 a2 (0 : Int32) (.long x2.toInt64)).bind fun h4 =>
  some ((0 : Int32), h4)
theorem vX0_doWorks {h : aH} {a0 : Option Nat} {a1 : Int32} {a2 : Option Nat} {q : Int32} {g : aH} (X : aXw p l R s m meth c D n0 s0 yX0_doWorks cX0_doWorks 17 3259 4 [(0, 9, 12, 13), (0, 9, 15, 15)] h) (hf : fX0_doWorks D h a0 a1 a2 = some (q, g)) : V p l e R s m args below meth c D n0 s0 (aEndw D below args s h q g) h 0 [(0, false, va_rf a0), (1, false, .int a1), (2, false, va_rf a2)] [] := by
  have C := X.1
  unfold fX0_doWorks at hf
  refine v_aload_n (pc := 0) (j := 2) C dX0_doWorks_0 rfl rfl ?_
  refine v_iconst (pc := 1) (v := (0 : Int32)) C dX0_doWorks_1 rfl ?_
  refine v_aload_n (pc := 2) (j := 0) C dX0_doWorks_2 rfl rfl ?_
  refine v_iload_n (pc := 3) (j := 1) C dX0_doWorks_3 rfl rfl ?_
  obtain ⟨b1, eb1, hf⟩ := oB hf
  obtain ⟨rb1, _, kb1⟩ := aIs_eq eb1
  rcases bndW_eq hf with ⟨kx2, cx2, gx2, ex2, hk, qx2⟩ | ⟨x2, h3, ex2, hf⟩
  · cases qx2
    by_cases k2 : kx2 = 2
    · subst k2
      rw [if_pos rfl] at hk
      cases hk
      exact v_ofDc (pc := 4) (ek := 2) X [] [(0, 9, 15, 15)] rfl (fun _ hz => by cases hz) (by decide) (by decide) q1572 q294 ⟨3, 1, 1, by decide, Or.inr ⟨3, rfl, dX0_doWorks_12, rfl⟩, dX0_doWorks_13, rfl, dX0_doWorks_14⟩ (Nat.le_refl _) (Nat.le_refl _) (d_V (pc := 4) C (As := [.int a1]) (rest := [.int (0 : Int32), va_rf a2]) rb1 kb1 nt_0 q2377 yi_X1_doWorks_FigureSurvey yk_X1_doWorks rfl (by decide) (by decide) (Nat.le_trans (aw_i (aw_r aw_0)) (by decide)) rfl (mX1_doWorks C.st ex2) dX0_doWorks_4)
    rw [if_neg k2] at hk
    by_cases k3 : kx2 = 3
    · subst k3
      rw [if_pos rfl] at hk
      cases hk
      exact v_ofDc (pc := 4) (ek := 3) X [(0, 9, 12, 13)] [] rfl (List.forall_mem_cons.mpr ⟨⟨by decide, _, q1572, by decide +kernel⟩, fun _ hz => by cases hz⟩) (by decide) (by decide) q1573 q1600 ⟨3, 1, 2, by decide, Or.inr ⟨3, rfl, dX0_doWorks_15, rfl⟩, dX0_doWorks_16, rfl, dX0_doWorks_17⟩ (Nat.le_refl _) (Nat.le_refl _) (d_V (pc := 4) C (As := [.int a1]) (rest := [.int (0 : Int32), va_rf a2]) rb1 kb1 nt_0 q2377 yi_X1_doWorks_FigureSurvey yk_X1_doWorks rfl (by decide) (by decide) (Nat.le_trans (aw_i (aw_r aw_0)) (by decide)) rfl (mX1_doWorks C.st ex2) dX0_doWorks_4)
    rw [if_neg k3] at hk
    cases hk
  refine v_call (pc := 4) (d_V (pc := 4) C (As := [.int a1]) (rest := [.int (0 : Int32), va_rf a2]) rb1 kb1 nt_0 q2377 yi_X1_doWorks_FigureSurvey yk_X1_doWorks rfl (by decide) (by decide) (Nat.le_trans (aw_i (aw_r aw_0)) (by decide)) rfl (mX1_doWorks C.st ex2) dX0_doWorks_4) ?_
  refine v_i2l (pc := 7) C dX0_doWorks_7 ?_
  obtain ⟨h4, eh4, hf⟩ := oB hf
  refine v_lastore (pc := 8) C eh4 dX0_doWorks_8 ?_
  refine v_goto (pc := 9) (tgt := 18) C dX0_doWorks_9 rfl ?_
  refine v_iconst (pc := 18) (v := (0 : Int32)) C dX0_doWorks_18 rfl ?_
  cases hf
  exact v_wret (pc := 19) X dX0_doWorks_19
theorem mX0_doWorks {l : Launch} {D : aD} {h : aH} {a0 : Option Nat} {a1 : Int32} {a2 : Option Nat} {q : Int32} {g : aH} (hst : l.stackTraces = false) (hf : fX0_doWorks D h a0 a1 a2 = some (q, g)) : aMw l D yX0_doWorks cX0_doWorks 4 [(0, 9, 12, 13), (0, 9, 15, 15)] 17 3259 [va_rf a0, .int a1, va_rf a2] h q g :=
  aMw.of [(false, va_rf a0), (false, .int a1), (false, va_rf a2)] rfl (ap_r (ap_c rfl (ap_r ap_0))) (by decide +kernel) hst (al_of (aw_r (aw_i (aw_r aw_0))) (by decide)) fun p e s m args below meth c X => V.sub (lv' := [(0, false, va_rf a0), (1, false, .int a1), (2, false, va_rf a2)]) [0, 1, 2] rfl (vX0_doWorks X hf)
def fX0_tellDam (D : aD) (h : aH) (a0 : Option Nat) (a1 : Int32) (a2 : Int32) (a3 : Option Nat) : Option (Int32 × aH) :=
  (aIs h 0 a0).bind fun _ =>
  bndW (fX1_tellDam D h a0 a1 a2) (fun k => if k = 2 then some (1 : Int32) else if k = 3 then some (2 : Int32) else none) fun x2 h3 =>
  (sF D h3 101 a3 (0 : Int32) (.long x2.toInt64)).bind fun h4 =>
  some ((0 : Int32), h4)
theorem vX0_tellDam {h : aH} {a0 : Option Nat} {a1 : Int32} {a2 : Int32} {a3 : Option Nat} {q : Int32} {g : aH} (X : aXw p l R s m meth c D n0 s0 yX0_tellDam cX0_tellDam 8 3096 5 [(0, 10, 13, 13), (0, 10, 17, 15)] h) (hf : fX0_tellDam D h a0 a1 a2 a3 = some (q, g)) : V p l e R s m args below meth c D n0 s0 (aEndw D below args s h q g) h 0 [(0, false, va_rf a0), (1, false, .int a1), (2, false, .int a2), (3, false, va_rf a3)] [] := by
  have C := X.1
  unfold fX0_tellDam at hf
  refine v_aload_n (pc := 0) (j := 3) C dX0_tellDam_0 rfl rfl ?_
  refine v_iconst (pc := 1) (v := (0 : Int32)) C dX0_tellDam_1 rfl ?_
  refine v_aload_n (pc := 2) (j := 0) C dX0_tellDam_2 rfl rfl ?_
  refine v_iload_n (pc := 3) (j := 1) C dX0_tellDam_3 rfl rfl ?_
  refine v_iload_n (pc := 4) (j := 2) C dX0_tellDam_4 rfl rfl ?_
  obtain ⟨b1, eb1, hf⟩ := oB hf
  obtain ⟨rb1, _, kb1⟩ := aIs_eq eb1
  rcases bndW_eq hf with ⟨kx2, cx2, gx2, ex2, hk, qx2⟩ | ⟨x2, h3, ex2, hf⟩
  · cases qx2
    by_cases k2 : kx2 = 2
    · subst k2
      rw [if_pos rfl] at hk
      cases hk
      exact v_ofDc (pc := 5) (ek := 2) X [] [(0, 10, 17, 15)] rfl (fun _ hz => by cases hz) (by decide) (by decide) q1572 q294 ⟨4, 2, 1, by decide, Or.inl ⟨dX0_tellDam_13, rfl⟩, dX0_tellDam_15, rfl, dX0_tellDam_16⟩ (Nat.le_refl _) (Nat.le_refl _) (d_V (pc := 5) C (As := [.int a1, .int a2]) (rest := [.int (0 : Int32), va_rf a3]) rb1 kb1 nt_0 q2398 yi_X1_tellDam_FigureSurvey yk_X1_tellDam rfl (by decide) (by decide) (Nat.le_trans (aw_i (aw_r aw_0)) (by decide)) rfl (mX1_tellDam C.st ex2) dX0_tellDam_5)
    rw [if_neg k2] at hk
    by_cases k3 : kx2 = 3
    · subst k3
      rw [if_pos rfl] at hk
      cases hk
      exact v_ofDc (pc := 5) (ek := 3) X [(0, 10, 13, 13)] [] rfl (List.forall_mem_cons.mpr ⟨⟨by decide, _, q1572, by decide +kernel⟩, fun _ hz => by cases hz⟩) (by decide) (by decide) q1573 q1600 ⟨4, 2, 2, by decide, Or.inl ⟨dX0_tellDam_17, rfl⟩, dX0_tellDam_19, rfl, dX0_tellDam_20⟩ (Nat.le_refl _) (Nat.le_refl _) (d_V (pc := 5) C (As := [.int a1, .int a2]) (rest := [.int (0 : Int32), va_rf a3]) rb1 kb1 nt_0 q2398 yi_X1_tellDam_FigureSurvey yk_X1_tellDam rfl (by decide) (by decide) (Nat.le_trans (aw_i (aw_r aw_0)) (by decide)) rfl (mX1_tellDam C.st ex2) dX0_tellDam_5)
    rw [if_neg k3] at hk
    cases hk
  refine v_call (pc := 5) (d_V (pc := 5) C (As := [.int a1, .int a2]) (rest := [.int (0 : Int32), va_rf a3]) rb1 kb1 nt_0 q2398 yi_X1_tellDam_FigureSurvey yk_X1_tellDam rfl (by decide) (by decide) (Nat.le_trans (aw_i (aw_r aw_0)) (by decide)) rfl (mX1_tellDam C.st ex2) dX0_tellDam_5) ?_
  refine v_i2l (pc := 8) C dX0_tellDam_8 ?_
  obtain ⟨h4, eh4, hf⟩ := oB hf
  refine v_lastore (pc := 9) C eh4 dX0_tellDam_9 ?_
  refine v_goto (pc := 10) (tgt := 21) C dX0_tellDam_10 rfl ?_
  refine v_iconst (pc := 21) (v := (0 : Int32)) C dX0_tellDam_21 rfl ?_
  cases hf
  exact v_wret (pc := 22) X dX0_tellDam_22
theorem mX0_tellDam {l : Launch} {D : aD} {h : aH} {a0 : Option Nat} {a1 : Int32} {a2 : Int32} {a3 : Option Nat} {q : Int32} {g : aH} (hst : l.stackTraces = false) (hf : fX0_tellDam D h a0 a1 a2 a3 = some (q, g)) : aMw l D yX0_tellDam cX0_tellDam 5 [(0, 10, 13, 13), (0, 10, 17, 15)] 8 3096 [va_rf a0, .int a1, .int a2, va_rf a3] h q g :=
  aMw.of [(false, va_rf a0), (false, .int a1), (false, .int a2), (false, va_rf a3)] rfl (ap_r (ap_c rfl (ap_c rfl (ap_r ap_0)))) (by decide +kernel) hst (al_of (aw_r (aw_i (aw_i (aw_r aw_0)))) (by decide)) fun p e s m args below meth c X => V.sub (lv' := [(0, false, va_rf a0), (1, false, .int a1), (2, false, .int a2), (3, false, va_rf a3)]) [0, 1, 2, 3] rfl (vX0_tellDam X hf)
end SW080
